/-! THE HIGH HEAP: lists, deques and bit sets as single cells; what their methods do there -/
/-! cells by their kinds -/
def galc (S : St) (r : Option Nat) : Option (Nat × Int32 × Nat × List (Option Nat)) := match gcell S r with
  | some (q, .inr (.inr (.inl (md, cap, xs)))) => some (q, md, cap, xs)
  | _ => none
def gllc (S : St) (r : Option Nat) : Option (Nat × Int32 × List (Nat × Option Nat)) := match gcell S r with
  | some (q, .inr (.inr (.inr (.inl (md, ns))))) => some (q, md, ns)
  | _ => none
def gdqc (S : St) (r : Option Nat) : Option (Nat × Nat × List (Option Nat)) := match gcell S r with
  | some (q, .inr (.inr (.inr (.inr (.inl (cap, xs)))))) => some (q, cap, xs)
  | _ => none
def gbsc (S : St) (r : Option Nat) : Option (Nat × Int64) := match gcell S r with
  | some (q, .inr (.inr (.inr (.inr (.inr (.inl w)))))) => some (q, w)
  | _ => none
def gbxc (S : St) (r : Option Nat) : Option Int32 := match gcell S r with
  | some (_, .inr (.inr (.inr (.inr (.inr (.inr (.inr x))))))) => some x
  | _ => none
/-! ArrayList -/
def alcap (cap n : Nat) : Nat := if n < cap then cap else if cap = 0 then 10 else cap + max 1 (cap / 2)
/-- room for one more: an array may be made -/
def algrow (S : St) (cap n : Nat) : St := if n < cap then S else ssk S (alcap cap n)
def h_J2_init (S : St) (r : Option Nat) : Option (Unit × St) := (gobj S r 8).bind fun o => if o.2 = [vI 0, vR none, vI 0] then some ((), sup S o.1 (cAL 0 0 [])) else none
def h_J2_add (S : St) (r x : Option Nat) : Option (Int32 × St) := (galc S r).bind fun o => if okst S 4 x = true ∧ o.2.2.2.length < 1000 then some (1, algrow (sup S o.1 (cAL (o.2.1 + 1) (alcap o.2.2.1 o.2.2.2.length) (o.2.2.2 ++ [x]))) o.2.2.1 o.2.2.2.length) else none
def h_J2_size (S : St) (r : Option Nat) : Option (Int32 × St) := (galc S r).bind fun o => some (nI o.2.2.2.length, S)
def h_J2_isEmpty (S : St) (r : Option Nat) : Option (Int32 × St) := (galc S r).bind fun o => some (if o.2.2.2.length = 0 then 1 else 0, S)
def h_J2_get (S : St) (r : Option Nat) (i : Int32) : Option (Option Nat × St) := (galc S r).bind fun o => if i < 0 then none else (o.2.2.2[i.toNatClampNeg]?).bind fun x => some (x, S)
def h_J2_clear (S : St) (r : Option Nat) : Option (Unit × St) := (galc S r).bind fun o => some ((), sup S o.1 (cAL (o.2.1 + 1) o.2.2.1 []))
def h_J2_remove (S : St) (r : Option Nat) (i : Int32) : Option (Option Nat × St) := (galc S r).bind fun o => if i < 0 then none else (o.2.2.2[i.toNatClampNeg]?).bind fun x => some (x, sup S o.1 (cAL (o.2.1 + 1) o.2.2.1 (o.2.2.2.eraseIdx i.toNatClampNeg)))
def h_J2_remove_2 (S : St) (r x : Option Nat) : Option (Int32 × St) := (galc S r).bind fun o => if grc S x 5 = true then (if x ∈ o.2.2.2 then some (1, sup S o.1 (cAL (o.2.1 + 1) o.2.2.1 (o.2.2.2.erase x))) else some (0, S)) else none
def h_J2_add_3 (S : St) (r : Option Nat) (i : Int32) (x : Option Nat) : Option (Unit × St) := (galc S r).bind fun o => if okst S 4 x = true ∧ ¬ i < 0 ∧ i.toNatClampNeg ≤ o.2.2.2.length ∧ o.2.2.2.length < 1000 then some ((), algrow (sup S o.1 (cAL (o.2.1 + 1) (alcap o.2.2.1 o.2.2.2.length) (o.2.2.2.insertIdx i.toNatClampNeg x))) o.2.2.1 o.2.2.2.length) else none
def h_J2_iterator (S : St) (r : Option Nat) : Option (Option Nat × St) := (galc S r).bind fun o => some (some S.2.1, spu S (cO 12 [vI 0, vI (-1), vI o.2.1, vR r]) 4)
def h_J26_hasNext (S : St) (r : Option Nat) : Option (Int32 × St) := (gI S r 12 0).bind fun c => (gR S r 12 3).bind fun l => (galc S l).bind fun o => some (if c = nI o.2.2.2.length then 0 else 1, S)
def h_J26_next (S : St) (r : Option Nat) : Option (Option Nat × St) := (gobj S r 12).bind fun t => (gI S r 12 0).bind fun c => (gI S r 12 2).bind fun em => (gR S r 12 3).bind fun l => (galc S l).bind fun o => if o.2.1 = em ∧ ¬ c < 0 then (o.2.2.2[c.toNatClampNeg]?).bind fun x => some (x, sup S t.1 (cO 12 ((t.2.set 0 (vI (c + 1))).set 1 (vI c)))) else none
def h_J26_remove (S : St) (r : Option Nat) : Option (Unit × St) := (gobj S r 12).bind fun t => (gI S r 12 1).bind fun lr => (gI S r 12 2).bind fun em => (gR S r 12 3).bind fun l => (galc S l).bind fun o => if o.2.1 = em ∧ ¬ lr < 0 ∧ lr.toNatClampNeg < o.2.2.2.length then some ((), sup (sup S o.1 (cAL (o.2.1 + 1) o.2.2.1 (o.2.2.2.eraseIdx lr.toNatClampNeg))) t.1 (cO 12 (((t.2.set 0 (vI lr)).set 1 (vI (-1))).set 2 (vI (o.2.1 + 1))))) else none
/-! LinkedList -/
def h_J4_init (S : St) (r : Option Nat) : Option (Unit × St) := (gobj S r 9).bind fun o => if o.2 = [vI 0, vI 0, vR none, vR none] then some ((), sup S o.1 (cLL 0 [])) else none
def h_J4_addLast (S : St) (r x : Option Nat) : Option (Unit × St) := (gllc S r).bind fun o => some ((), ssk (sup S o.1 (cLL (o.2.1 + 1) (o.2.2 ++ [(S.2.1, x)]))) 3)
def h_J4_add (S : St) (r x : Option Nat) : Option (Int32 × St) := (gllc S r).bind fun o => some (1, ssk (sup S o.1 (cLL (o.2.1 + 1) (o.2.2 ++ [(S.2.1, x)]))) 3)
def h_J4_size (S : St) (r : Option Nat) : Option (Int32 × St) := (gllc S r).bind fun o => some (nI o.2.2.length, S)
def h_J0_isEmpty (S : St) (r : Option Nat) : Option (Int32 × St) := (gllc S r).bind fun o => if o.2.2.length < 100000 then some (if o.2.2.length = 0 then 1 else 0, S) else none
def h_J4_clear (S : St) (r : Option Nat) : Option (Unit × St) := (gllc S r).bind fun o => if o.2.2.length < 10000 then some ((), sup S o.1 (cLL (o.2.1 + 1) [])) else none
def h_J4_getLast (S : St) (r : Option Nat) : Option (Option Nat × St) := (gllc S r).bind fun o => (o.2.2.getLast?).bind fun n => some (n.2, S)
def h_J4_removeLast (S : St) (r : Option Nat) : Option (Option Nat × St) := (gllc S r).bind fun o => (o.2.2.getLast?).bind fun n => some (n.2, sup S o.1 (cLL (o.2.1 + 1) o.2.2.dropLast))
def h_J4_removeFirst (S : St) (r : Option Nat) : Option (Option Nat × St) := (gllc S r).bind fun o => (o.2.2.head?).bind fun n => some (n.2, sup S o.1 (cLL (o.2.1 + 1) o.2.2.tail))
/-- the place of the first node that holds x -/
def llfind (x : Option Nat) (ns : List (Nat × Option Nat)) : Nat := ns.findIdx (fun n => n.2 == x)
def h_J4_remove_2 (S : St) (r x : Option Nat) : Option (Int32 × St) := (gllc S r).bind fun o => if grc S x 3 = true ∧ o.2.2.length < 10000 then (if llfind x o.2.2 < o.2.2.length then some (1, sup S o.1 (cLL (o.2.1 + 1) (o.2.2.eraseIdx (llfind x o.2.2)))) else some (0, S)) else none
def lladr (ns : List (Nat × Option Nat)) (i : Nat) : Option Nat := (ns[i]?).map (·.1)
def h_J3_iterator (S : St) (r : Option Nat) : Option (Option Nat × St) := (gllc S r).bind fun o => if o.2.2.length < 100000 then some (some S.2.1, spu S (cO 13 [vR none, vR (lladr o.2.2 0), vI 0, vI o.2.1, vR r]) 5) else none
def h_J29_hasNext (S : St) (r : Option Nat) : Option (Int32 × St) := (gI S r 13 2).bind fun i => (gR S r 13 4).bind fun l => (gllc S l).bind fun o => some (if i < nI o.2.2.length then 1 else 0, S)
def h_J29_next (S : St) (r : Option Nat) : Option (Option Nat × St) := (gobj S r 13).bind fun t => (gR S r 13 1).bind fun nx => (gI S r 13 2).bind fun i => (gI S r 13 3).bind fun em => (gR S r 13 4).bind fun l => (gllc S l).bind fun o => if o.2.1 = em ∧ ¬ i < 0 ∧ nx = lladr o.2.2 i.toNatClampNeg ∧ o.2.2.length < 100000 then (o.2.2[i.toNatClampNeg]?).bind fun n => some (n.2, sup S t.1 (cO 13 (((t.2.set 0 (vR nx)).set 1 (vR (lladr o.2.2 (i.toNatClampNeg + 1)))).set 2 (vI (i + 1))))) else none
def h_J29_remove (S : St) (r : Option Nat) : Option (Unit × St) := (gobj S r 13).bind fun t => (gR S r 13 0).bind fun lr => (gR S r 13 1).bind fun nx => (gI S r 13 2).bind fun i => (gI S r 13 3).bind fun em => (gR S r 13 4).bind fun l => (gllc S l).bind fun o => if o.2.1 = em ∧ 0 < i ∧ i.toNatClampNeg ≤ o.2.2.length ∧ lr = lladr o.2.2 (i.toNatClampNeg - 1) ∧ nx = lladr o.2.2 i.toNatClampNeg ∧ o.2.2.length < 100000 then some ((), sup (sup S o.1 (cLL (o.2.1 + 1) (o.2.2.eraseIdx (i.toNatClampNeg - 1)))) t.1 (cO 13 (((t.2.set 2 (vI (i - 1))).set 0 (vR none)).set 3 (vI (em + 1))))) else none
/-! ArrayDeque -/
def h_J33_init (S : St) (r : Option Nat) : Option (Unit × St) := (gobj S r 14).bind fun o => if o.2 = [vR none, vI 0, vI 0] then some ((), ssk (sup S o.1 (cDQ 17 [])) 17) else none
def dqcap (cap n : Nat) : Nat := if n + 1 < cap then cap else if cap < 64 then cap + (cap + 2) else cap + cap / 2
def h_J33_addLast (S : St) (r x : Option Nat) : Option (Unit × St) := (gdqc S r).bind fun o => if okst S 4 x = true ∧ x.isSome = true ∧ o.2.2.length < 1000 then some ((), (if o.2.2.length + 1 < o.2.1 then (fun S => S) else fun S => ssk S (dqcap o.2.1 o.2.2.length)) (sup S o.1 (cDQ (dqcap o.2.1 o.2.2.length) (o.2.2 ++ [x])))) else none
def h_J33_add (S : St) (r x : Option Nat) : Option (Int32 × St) := (h_J33_addLast S r x).bind fun p => some (1, p.2)
def h_J33_removeFirst (S : St) (r : Option Nat) : Option (Option Nat × St) := (gdqc S r).bind fun o => (o.2.2.head?).bind fun x => some (x, sup S o.1 (cDQ o.2.1 o.2.2.tail))
def h_J33_contains (S : St) (r x : Option Nat) : Option (Int32 × St) := (gdqc S r).bind fun o => if grc S x 1 = true then some (if x ∈ o.2.2 then 1 else 0, S) else none
def h_J33_isEmpty (S : St) (r : Option Nat) : Option (Int32 × St) := (gdqc S r).bind fun o => some (if o.2.2.length = 0 then 1 else 0, S)
/-! BitSet, of 64 bits -/
def bbit (i : Int32) : Int64 := (1 : Int64) <<< (i.toInt64 &&& 63)
def h_J5_init (S : St) (r : Option Nat) (n : Int32) : Option (Unit × St) := (gobj S r 10).bind fun o => if o.2 = [vR none, vI 0, vI 0] ∧ n = 60 then some ((), ssk (sup S o.1 (cBS 0)) 1) else none
def h_J5_set (S : St) (r : Option Nat) (i : Int32) : Option (Unit × St) := (gbsc S r).bind fun o => if 0 ≤ i ∧ i < 64 then some ((), sup S o.1 (cBS (o.2 ||| bbit i))) else none
def h_J5_get (S : St) (r : Option Nat) (i : Int32) : Option (Int32 × St) := (gbsc S r).bind fun o => if 0 ≤ i ∧ i < 64 then some (if o.2 &&& bbit i = 0 then 0 else 1, S) else none
def h_J5_clear (S : St) (r : Option Nat) : Option (Unit × St) := (gbsc S r).bind fun o => some ((), sup S o.1 (cBS 0))
/-- the first bit from i on; -1 if there is none -/
def nsb (w : Int64) : Nat → Nat → Int32
  | 0, _ => -1
  | n + 1, i => if w &&& bbit (nI i) = 0 then nsb w n (i + 1) else nI i
def h_J5_nextSetBit (S : St) (r : Option Nat) (i : Int32) : Option (Int32 × St) := (gbsc S r).bind fun o => if 0 ≤ i ∧ i < 64 then some (nsb o.2 (64 - i.toNatClampNeg) i.toNatClampNeg, S) else none
/-! boxed ints: the cache's -/
def h_J23_valueOf (S : St) (x : Int32) : Option (Option Nat × St) := if -128 ≤ x ∧ x ≤ 127 then some (some (S.2.2.2 (100 + (x + 128).toNatClampNeg)), S) else none
def h_J23_intValue (S : St) (r : Option Nat) : Option (Int32 × St) := (gbxc S r).bind fun x => some (x, S)
