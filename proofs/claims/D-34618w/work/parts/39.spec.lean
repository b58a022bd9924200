/-! THE STATE that keeper and reference stand for, and what the calls do to it -/
/-- a root: its folder, its queue (kinds 0 CAME 1 WRITTEN 2 GONE, nodes), whether flooded, its crawl, what its crawl has met -/
abbrev RtV := Nat × List (Nat × Nat) × Bool × Option (List Nat) × Int64
/-- an entry: parent, name, edition, words -/
abbrev EnV := Nat × Int32 × Nat × List Int32
/-- an act: node, whether a drop, whether put off -/
abbrev AcV := Nat × Bool × Bool
/-- a segment: a name for it, its places (node, whether dead) -/
abbrev SgV := Nat × List (Nat × Bool)
/-- files: made, folder, parent, name, edition, marks, locked, people, gone -/
abbrev Fl := Nat × (Nat → Bool) × (Nat → Option Nat) × (Nat → Int32) × (Nat → Nat) × (Nat → List Int32) × (Nat → Bool) × (Nat → Int32) × (Nat → Bool)
/-- numbers: minute, on battery, hour, steps of the hour, depth, most words -/
abbrev Nm := Int32 × Bool × Int32 × Int32 × Int32 × Int32
abbrev En := Nat → Option EnV
/-- all: files, roots, entries, acts, segments, read, numbers -/
abbrev Sg := Fl × List RtV × En × List AcV × List SgV × Int64 × Nm
abbrev fMd (f : Fl) : Nat := f.1
abbrev fFo (f : Fl) : Nat → Bool := f.2.1
abbrev fPa (f : Fl) : Nat → Option Nat := f.2.2.1
abbrev fNm (f : Fl) : Nat → Int32 := f.2.2.2.1
abbrev fEd (f : Fl) : Nat → Nat := f.2.2.2.2.1
abbrev fMk (f : Fl) : Nat → List Int32 := f.2.2.2.2.2.1
abbrev fLk (f : Fl) : Nat → Bool := f.2.2.2.2.2.2.1
abbrev fPp (f : Fl) : Nat → Int32 := f.2.2.2.2.2.2.2.1
abbrev fGo (f : Fl) : Nat → Bool := f.2.2.2.2.2.2.2.2
abbrev zF (s : Sg) : Fl := s.1
abbrev zR (s : Sg) : List RtV := s.2.1
abbrev zE (s : Sg) : En := s.2.2.1
abbrev zA (s : Sg) : List AcV := s.2.2.2.1
abbrev zS (s : Sg) : List SgV := s.2.2.2.2.1
abbrev zW (s : Sg) : Int64 := s.2.2.2.2.2.1
abbrev zN (s : Sg) : Nm := s.2.2.2.2.2.2
abbrev wF (s : Sg) (v : Fl) : Sg := (v, s.2)
abbrev wR (s : Sg) (v : List RtV) : Sg := (s.1, v, s.2.2)
abbrev wE (s : Sg) (v : En) : Sg := (s.1, s.2.1, v, s.2.2.2)
abbrev wA (s : Sg) (v : List AcV) : Sg := (s.1, s.2.1, s.2.2.1, v, s.2.2.2.2)
abbrev wS (s : Sg) (v : List SgV) : Sg := (s.1, s.2.1, s.2.2.1, s.2.2.2.1, v, s.2.2.2.2.2)
abbrev wW (s : Sg) (v : Int64) : Sg := (s.1, s.2.1, s.2.2.1, s.2.2.2.1, s.2.2.2.2.1, v, s.2.2.2.2.2.2)
abbrev wN (s : Sg) (v : Nm) : Sg := (s.1, s.2.1, s.2.2.1, s.2.2.2.1, s.2.2.2.2.1, s.2.2.2.2.2.1, v)
abbrev fwPa (f : Fl) (v : Nat → Option Nat) : Fl := (f.1, f.2.1, v, f.2.2.2)
abbrev fwNm (f : Fl) (v : Nat → Int32) : Fl := (f.1, f.2.1, f.2.2.1, v, f.2.2.2.2)
abbrev fwEd (f : Fl) (v : Nat → Nat) : Fl := (f.1, f.2.1, f.2.2.1, f.2.2.2.1, v, f.2.2.2.2.2)
abbrev fwMk (f : Fl) (v : Nat → List Int32) : Fl := (f.1, f.2.1, f.2.2.1, f.2.2.2.1, f.2.2.2.2.1, v, f.2.2.2.2.2.2)
abbrev fwLk (f : Fl) (v : Nat → Bool) : Fl := (f.1, f.2.1, f.2.2.1, f.2.2.2.1, f.2.2.2.2.1, f.2.2.2.2.2.1, v, f.2.2.2.2.2.2.2)
abbrev fwPp (f : Fl) (v : Nat → Int32) : Fl := (f.1, f.2.1, f.2.2.1, f.2.2.2.1, f.2.2.2.2.1, f.2.2.2.2.2.1, f.2.2.2.2.2.2.1, v, f.2.2.2.2.2.2.2.2)
abbrev fwGo (f : Fl) (v : Nat → Bool) : Fl := (f.1, f.2.1, f.2.2.1, f.2.2.2.1, f.2.2.2.2.1, f.2.2.2.2.2.1, f.2.2.2.2.2.2.1, f.2.2.2.2.2.2.2.1, v)
/-! where nodes lie -/
def upc (pa : Nat → Option Nat) : Nat → Nat → List Nat
  | 0, _ => []
  | c + 1, n => match pa n with
    | none => []
    | some p => p :: upc pa c p
/-- below, properly -/
def blw (f : Fl) (n a : Nat) : Bool := (upc (fPa f) 60 n).any fun p => p == a
def mrd (f : Fl) (x : Int32) (n : Nat) : Bool := (n :: upc (fPa f) 60 n).all fun p => ((fPp f p >>> (x &&& 31)) &&& 1) == 1
/-- the root below which a node is, if it is there -/
def abv (f : Fl) (rs : List RtV) (n : Nat) : Option Nat := if fGo f n then none else (rs.find? fun r => blw f n r.1).map (·.1)
def isR (rs : List RtV) (n : Nat) : Bool := rs.any fun r => r.1 == n
def tkn (f : Fl) (p : Nat) (nm : Int32) (but : Option Nat) : Bool := exB (fun k => !(some k == but) && !fGo f k && fPa f k == some p && fNm f k == nm) (fMd f)
def hasA (f : Fl) (a n : Nat) : Bool := n == a || blw f n a
def holR (f : Fl) (rs : List RtV) (n : Nat) : Bool := rs.any fun r => r.1 == n || blw f r.1 n
/-- an argument as a node that is there; as a folder; as a file -/
def ndA (f : Fl) (x : Int32) : Option Nat := if ¬ x < 0 ∧ x.toNatClampNeg < fMd f ∧ fGo f x.toNatClampNeg = false then some x.toNatClampNeg else none
def foA (f : Fl) (x : Int32) : Option Nat := (ndA f x).bind fun n => if fFo f n then some n else none
def fiA (f : Fl) (x : Int32) : Option Nat := (ndA f x).bind fun n => if fFo f n then none else some n
def isNm (x : Int32) : Bool := !(decide (x < 97)) && !(decide (122 < x))
def inI (x a b : Int32) : Bool := !(decide (x < a)) && !(decide (b < x))
/-! notices, roots -/
def telR (k n : Nat) (r : RtV) : RtV := if r.2.2.1 || r.2.1.length == 8 then (r.1, [], true, r.2.2.2) else (r.1, r.2.1 ++ [(k, n)], r.2.2)
def updR (rs : List RtV) (a : Nat) (g : RtV → RtV) : List RtV := rs.map fun r => if r.1 = a then g r else r
def telS (rs : List RtV) (o : Option Nat) (k n : Nat) : List RtV := match o with
  | none => rs
  | some a => updR rs a (telR k n)
def begR (r : RtV) : RtV := (r.1, r.2.1, r.2.2.1, some [r.1], 0)
/-! acts -/
def adA (ac : List AcV) (n : Nat) (d : Bool) : List AcV := if ac.any (fun a => a.1 == n) then ac.map (fun a => if a.1 = n then (n, d, a.2.2) else a) else ac ++ [(n, d, false)]
def lkA (en : En) (ac : List AcV) : Nat → List AcV
  | 0 => ac
  | k + 1 => if (en k).isSome then adA (lkA en ac k) k false else lkA en ac k
/-! what is known -/
def kst (rs : List RtV) (en : En) (u : Nat) : Option Nat := if isR rs u then none else (en u).map (·.1)
def kbl (rs : List RtV) (en : En) (a : Nat) : Nat → Option Nat → Bool
  | 0, _ => false
  | _ + 1, none => false
  | c + 1, some u => u == a || kbl rs en a c (kst rs en u)
def knb (rs : List RtV) (en : En) (n a : Nat) : Bool := kbl rs en a 60 ((en n).map (·.1))
def kno (f : Fl) (en : En) (k : Nat) : Bool := match en k with
  | none => false
  | some e => some e.1 == fPa f k && e.2.1 == fNm f k && (fFo f k || e.2.2.1 == fEd f k)
def eEd (en : En) (n : Nat) : Nat := match en n with
  | none => 0
  | some e => e.2.2.1
def eWd (en : En) (n : Nat) : List Int32 := match en n with
  | none => []
  | some e => e.2.2.2
/-- nodes whose entries a drop takes -/
def drS (rs : List RtV) (en : En) (n k : Nat) : Bool := (en k).isSome && (k == n || !isR rs n && knb rs en k n)
def kilS (sg : List SgV) (D : Nat → Bool) : List SgV := sg.map fun s => (s.1, s.2.map fun p => (p.1, p.2 || D p.1))
def drE (en : En) (D : Nat → Bool) : En := fun k => if D k then none else en k
/-! words -/
def opn : List Int32 → Nat
  | [] => 0
  | m :: l => if m = -3 then opn l + 1 else if m = -2 then opn l - 1 else opn l
/-- words from here on, so deep, so many being taken already -/
def tkW (dl most : Int32) : List Int32 → Nat → Nat → List Int32
  | [], _, _ => []
  | m :: l, d, c => if m = -2 then (if opn l = 0 then [] else tkW dl most l (d + 1) c) else if m = -3 then tkW dl most l (d - 1) c else if m < 0 ∨ dl < nI d ∨ most ≤ nI c then tkW dl most l d c else m :: tkW dl most l d (c + 1)
def takW (nm : Nm) (ms : List Int32) : List Int32 := tkW nm.2.2.2.2.1 nm.2.2.2.2.2 ms 0 0
/-! bits -/
def tb (w : Int64) (k : Nat) : Bool := !(decide (w &&& bbit (nI k) = 0))
/-! a look -/
def lokE (f : Fl) (nm : Nm) (en : En) (n : Nat) : EnV := if fFo f n || eEd en n == fEd f n then ((fPa f n).getD 0, fNm f n, eEd en n, eWd en n) else ((fPa f n).getD 0, fNm f n, fEd f n, takW nm (fMk f n))
def lokW (f : Fl) (en : En) (w : Int64) (n : Nat) : Int64 := if fFo f n || eEd en n == fEd f n then w else w ||| bbit (nI n)
def lokA (f : Fl) (n : Nat) (ac : List AcV) : Nat → List AcV
  | 0 => ac
  | k + 1 => if !fGo f k && fPa f k == some n then adA (lokA f n ac k) k false else lokA f n ac k
def look (s : Sg) (n : Nat) : Sg := (zF s, zR s, fu (zE s) n (some (lokE (zF s) (zN s) (zE s) n)), if fFo (zF s) n then lokA (zF s) n (zA s) (fMd (zF s)) else zA s, zS s, lokW (zF s) (zE s) (zW s) n, zN s)
def drop (s : Sg) (n : Nat) : Sg := (zF s, zR s, drE (zE s) (drS (zR s) (zE s) n), zA s, kilS (zS s) (drS (zR s) (zE s) n), zW s, zN s)
def perf (s : Sg) (a : AcV) : Sg :=
  if (abv (zF s) (zR s) a.1).isNone then drop s a.1
  else if a.2.1 then wA s (adA (zA s) a.1 false)
  else if !fFo (zF s) a.1 && fLk (zF s) a.1 then wA s (zA s ++ [(a.1, false, true)])
  else look s a.1
def cosA (s : Sg) (a : AcV) : Nat := if !a.2.1 && !fFo (zF s) a.1 && !fLk (zF s) a.1 && (abv (zF s) (zR s) a.1).isSome && ((zE s a.1).isNone || !(eEd (zE s) a.1 == fEd (zF s) a.1)) then 1 + (fMk (zF s) a.1).length else 1
/-! crawls -/
def cw1 (f : Fl) (en : En) (d : Nat) (s : List AcV × Int64 × List Nat) : Nat → List AcV × Int64 × List Nat
  | 0 => s
  | k + 1 => if !fGo f k && fPa f k == some d then (if kno f en k then (cw1 f en d s k).1 else adA (cw1 f en d s k).1 k false, (cw1 f en d s k).2.1 ||| bbit (nI k), if fFo f k && !((cw1 f en d s k).2.2.any fun j => j == k) then (cw1 f en d s k).2.2 ++ [k] else (cw1 f en d s k).2.2) else cw1 f en d s k
def cw2 (en : En) (w : Int64) (ac : List AcV) : Nat → List AcV
  | 0 => ac
  | k + 1 => if (en k).isSome && !tb w k then adA (cw2 en w ac k) k false else cw2 en w ac k
def cwZ (s : Sg) (r : RtV) (l : List Nat) (d : Nat) : List AcV × Int64 × List Nat := if !fGo (zF s) d && hasA (zF s) r.1 d then cw1 (zF s) (zE s) d (zA s, r.2.2.2.2, l) (fMd (zF s)) else (zA s, r.2.2.2.2, l)
def cwF (s : Sg) (a : Nat) (t : List AcV × Int64 × List Nat) : Sg := if t.2.2.isEmpty then wA (wR s (updR (zR s) a fun r => (r.1, r.2.1, r.2.2.1, none, t.2.1))) (cw2 (zE s) t.2.1 t.1 60) else wA (wR s (updR (zR s) a fun r => (r.1, r.2.1, r.2.2.1, some t.2.2, t.2.1))) t.1
def crwl (s : Sg) (r : RtV) : Sg := match r.2.2.2.1 with
  | some (d :: l) => cwF s r.1 (cwZ s r l d)
  | _ => s
def hear (s : Sg) (r : RtV) : Sg := if r.2.2.1 then wR s (updR (zR s) r.1 fun r => begR (r.1, r.2.1, false, r.2.2.2)) else match r.2.1 with
  | [] => s
  | p :: q => wA (wR s (updR (zR s) r.1 fun r => (r.1, q, r.2.2))) (adA (zA s) p.2 (p.1 == 2))
/-! work -/
def tellg (rs : List RtV) : Option RtV := rs.find? fun r => r.2.2.1 || !r.2.1.isEmpty
def crwlg (rs : List RtV) : Option RtV := rs.find? fun r => r.2.2.2.1.isSome
def nxtA (ac : List AcV) : Nat := ac.findIdx fun a => !a.2.2
/-- does the next thing, if so many steps are enough for it -/
def doN (s : Sg) (left : Int32) : Int32 × Sg := match tellg (zR s) with
  | some r => if left < 1 then (0, s) else (1, hear s r)
  | none => match (zA s)[nxtA (zA s)]? with
    | some a => if left < nI (cosA s a) then (0, s) else (nI (cosA s a), perf (wA s ((zA s).eraseIdx (nxtA (zA s)))) a)
    | none => match crwlg (zR s) with
      | some r => if left < 1 then (0, s) else (1, crwl s r)
      | none => (0, s)
/-- the loop of work: what was done, and the state -/
def wrkL (left : Int32) : Nat → Sg → Int32 → Int32 × Sg
  | 0, s, d => (d, s)
  | c + 1, s, d => if 0 < (doN s (left - d)).1 then wrkL left c (doN s (left - d)).2 (d + (doN s (left - d)).1) else (d, (doN s (left - d)).2)
/-! the index -/
def rdL (w : Int64) (en : En) : Nat → List Nat
  | 0 => []
  | k + 1 => if tb w k && (en k).isSome then rdL w en k ++ [k] else rdL w en k
def lvS (s : SgV) : List (Nat × Bool) := s.2.filter fun p => !p.2
def bstS (sg : List SgV) : Nat → Nat
  | 0 => 0
  | k + 1 => if ((sg[k + 1]?).map (·.2.length)).getD 0 + ((sg[k + 2]?).map (·.2.length)).getD 0 < ((sg[bstS sg k]?).map (·.2.length)).getD 0 + ((sg[bstS sg k + 1]?).map (·.2.length)).getD 0 then k + 1 else bstS sg k
def joiS (sg : List SgV) : List SgV := match sg[bstS sg (sg.length - 2)]?, sg[bstS sg (sg.length - 2) + 1]? with
  | some a, some b => (sg.set (bstS sg (sg.length - 2)) (a.1, lvS a ++ lvS b)).eraseIdx (bstS sg (sg.length - 2) + 1)
  | _, _ => sg
def stoS (s : Sg) (id : Nat) : List SgV :=
  let l := rdL (zW s) (zE s) 60
  let s1 := kilS (zS s) fun k => l.any fun j => j == k
  let s2 := if l.isEmpty then s1 else s1 ++ [(id, l.map fun k => (k, false))]
  let s3 := s2.filter fun g => g.2.any fun p => !p.2
  if 3 < s3.length then joiS s3 else s3
def stor (s : Sg) (id : Nat) : Sg := wW (wS s (stoS s id)) 0
