/-! the law's body -/
def n_L_law_b1790 (k23 : St → Option Nat → Option Nat → Option Nat → Option Nat → Int32 → Option (Int32 × St)) (S : St) (x0 : Option Nat) (x1 : Option Nat) (x2 : Option Nat) (x3 : Option Nat) (x4 : Int32) : Option (Int32 × St) :=
  k23 S x0 x1 x2 x3 (x4 + 5)
def n_L_law_b1787 (k23 : St → Option Nat → Option Nat → Option Nat → Option Nat → Int32 → Option (Int32 × St)) (S : St) (x0 : Option Nat) (x1 : Option Nat) (x2 : Option Nat) (x3 : Option Nat) (x4 : Int32) : Option (Int32 × St) :=
  n_L_law_b1790 k23 S x0 x1 x2 x3 x4
def n_L_law_b1698 (k23 : St → Option Nat → Option Nat → Option Nat → Option Nat → Int32 → Option (Int32 × St)) (S : St) (x0 : Option Nat) (x1 : Option Nat) (x2 : Option Nat) (x3 : Option Nat) (x4 : Int32) : Option (Int32 × St) :=
  (aI S x0 10 (x4 + (1 : Int32))).bind fun v1 =>
  (aI S x0 10 (x4 + (2 : Int32))).bind fun v2 =>
  (aI S x0 10 (x4 + (3 : Int32))).bind fun v3 =>
  (aI S x0 10 (x4 + (4 : Int32))).bind fun v4 =>
  bn (n_X0_closest S x1 v1 v2 v3 v4 x3) fun v6 S5 =>
  (aI S5 x0 10 (x4 + (1 : Int32))).bind fun v7 =>
  (aI S5 x0 10 (x4 + (2 : Int32))).bind fun v8 =>
  (aI S5 x0 10 (x4 + (3 : Int32))).bind fun v9 =>
  (aI S5 x0 10 (x4 + (4 : Int32))).bind fun v10 =>
  gd (grc S5 x2 15) <|
  bn (n_X3_closest S5 x2 v7 v8 v9 v10) fun v12 S11 =>
  gd (grc S11 x2 15) <|
  bn (n_X3_thrown S11 x2) fun v14 S13 =>
  if v14 = v6 then
    if v6 = 0 then
      (aL S13 x3 3 (0 : Int32)).bind fun v15 =>
      if (gcmp v15 (v12.toInt64)) = 0 then
        n_L_law_b1787 k23 S13 x0 x1 x2 x3 x4
      else
        rtI id (Jvm.ClassFile.FieldType.boolean) (0 : Int32) S13
    else
      n_L_law_b1787 k23 S13 x0 x1 x2 x3 x4
  else
    rtI id (Jvm.ClassFile.FieldType.boolean) (0 : Int32) S13
def n_L_law_b1695 (k23 : St → Option Nat → Option Nat → Option Nat → Option Nat → Int32 → Option (Int32 × St)) (S : St) (x0 : Option Nat) (x1 : Option Nat) (x2 : Option Nat) (x3 : Option Nat) (x4 : Int32) : Option (Int32 × St) :=
  n_L_law_b1790 k23 S x0 x1 x2 x3 x4
def n_L_law_b1606 (k23 : St → Option Nat → Option Nat → Option Nat → Option Nat → Int32 → Option (Int32 × St)) (S : St) (x0 : Option Nat) (x1 : Option Nat) (x2 : Option Nat) (x3 : Option Nat) (x4 : Int32) : Option (Int32 × St) :=
  (aI S x0 10 (x4 + (1 : Int32))).bind fun v1 =>
  (aI S x0 10 (x4 + (2 : Int32))).bind fun v2 =>
  (aI S x0 10 (x4 + (3 : Int32))).bind fun v3 =>
  (aI S x0 10 (x4 + (4 : Int32))).bind fun v4 =>
  bn (n_X0_answer S x1 v1 v2 v3 v4 x3) fun v6 S5 =>
  (aI S5 x0 10 (x4 + (1 : Int32))).bind fun v7 =>
  (aI S5 x0 10 (x4 + (2 : Int32))).bind fun v8 =>
  (aI S5 x0 10 (x4 + (3 : Int32))).bind fun v9 =>
  (aI S5 x0 10 (x4 + (4 : Int32))).bind fun v10 =>
  gd (grc S5 x2 15) <|
  bn (n_X3_answer S5 x2 v7 v8 v9 v10) fun v12 S11 =>
  gd (grc S11 x2 15) <|
  bn (n_X3_thrown S11 x2) fun v14 S13 =>
  if v14 = v6 then
    if v6 = 0 then
      (aL S13 x3 3 (0 : Int32)).bind fun v15 =>
      if (gcmp v15 (v12.toInt64)) = 0 then
        n_L_law_b1695 k23 S13 x0 x1 x2 x3 x4
      else
        rtI id (Jvm.ClassFile.FieldType.boolean) (0 : Int32) S13
    else
      n_L_law_b1695 k23 S13 x0 x1 x2 x3 x4
  else
    rtI id (Jvm.ClassFile.FieldType.boolean) (0 : Int32) S13
def n_L_law_b1603 (k23 : St → Option Nat → Option Nat → Option Nat → Option Nat → Int32 → Option (Int32 × St)) (S : St) (x0 : Option Nat) (x1 : Option Nat) (x2 : Option Nat) (x3 : Option Nat) (x4 : Int32) : Option (Int32 × St) :=
  n_L_law_b1790 k23 S x0 x1 x2 x3 x4
def n_L_law_b1514 (k23 : St → Option Nat → Option Nat → Option Nat → Option Nat → Int32 → Option (Int32 × St)) (S : St) (x0 : Option Nat) (x1 : Option Nat) (x2 : Option Nat) (x3 : Option Nat) (x4 : Int32) : Option (Int32 × St) :=
  (aI S x0 10 (x4 + (1 : Int32))).bind fun v1 =>
  (aI S x0 10 (x4 + (2 : Int32))).bind fun v2 =>
  (aI S x0 10 (x4 + (3 : Int32))).bind fun v3 =>
  (aI S x0 10 (x4 + (4 : Int32))).bind fun v4 =>
  bn (n_X0_answersAnew S x1 v1 v2 v3 v4 x3) fun v6 S5 =>
  (aI S5 x0 10 (x4 + (1 : Int32))).bind fun v7 =>
  (aI S5 x0 10 (x4 + (2 : Int32))).bind fun v8 =>
  (aI S5 x0 10 (x4 + (3 : Int32))).bind fun v9 =>
  (aI S5 x0 10 (x4 + (4 : Int32))).bind fun v10 =>
  gd (grc S5 x2 15) <|
  bn (n_X3_answersAnew S5 x2 v7 v8 v9 v10) fun v12 S11 =>
  gd (grc S11 x2 15) <|
  bn (n_X3_thrown S11 x2) fun v14 S13 =>
  if v14 = v6 then
    if v6 = 0 then
      (aL S13 x3 3 (0 : Int32)).bind fun v15 =>
      if (gcmp v15 (v12.toInt64)) = 0 then
        n_L_law_b1603 k23 S13 x0 x1 x2 x3 x4
      else
        rtI id (Jvm.ClassFile.FieldType.boolean) (0 : Int32) S13
    else
      n_L_law_b1603 k23 S13 x0 x1 x2 x3 x4
  else
    rtI id (Jvm.ClassFile.FieldType.boolean) (0 : Int32) S13
def n_L_law_b1511 (k23 : St → Option Nat → Option Nat → Option Nat → Option Nat → Int32 → Option (Int32 × St)) (S : St) (x0 : Option Nat) (x1 : Option Nat) (x2 : Option Nat) (x3 : Option Nat) (x4 : Int32) : Option (Int32 × St) :=
  n_L_law_b1790 k23 S x0 x1 x2 x3 x4
def n_L_law_b1422 (k23 : St → Option Nat → Option Nat → Option Nat → Option Nat → Int32 → Option (Int32 × St)) (S : St) (x0 : Option Nat) (x1 : Option Nat) (x2 : Option Nat) (x3 : Option Nat) (x4 : Int32) : Option (Int32 × St) :=
  (aI S x0 10 (x4 + (1 : Int32))).bind fun v1 =>
  (aI S x0 10 (x4 + (2 : Int32))).bind fun v2 =>
  (aI S x0 10 (x4 + (3 : Int32))).bind fun v3 =>
  (aI S x0 10 (x4 + (4 : Int32))).bind fun v4 =>
  bn (n_X0_answers S x1 v1 v2 v3 v4 x3) fun v6 S5 =>
  (aI S5 x0 10 (x4 + (1 : Int32))).bind fun v7 =>
  (aI S5 x0 10 (x4 + (2 : Int32))).bind fun v8 =>
  (aI S5 x0 10 (x4 + (3 : Int32))).bind fun v9 =>
  (aI S5 x0 10 (x4 + (4 : Int32))).bind fun v10 =>
  gd (grc S5 x2 15) <|
  bn (n_X3_answers S5 x2 v7 v8 v9 v10) fun v12 S11 =>
  gd (grc S11 x2 15) <|
  bn (n_X3_thrown S11 x2) fun v14 S13 =>
  if v14 = v6 then
    if v6 = 0 then
      (aL S13 x3 3 (0 : Int32)).bind fun v15 =>
      if (gcmp v15 (v12.toInt64)) = 0 then
        n_L_law_b1511 k23 S13 x0 x1 x2 x3 x4
      else
        rtI id (Jvm.ClassFile.FieldType.boolean) (0 : Int32) S13
    else
      n_L_law_b1511 k23 S13 x0 x1 x2 x3 x4
  else
    rtI id (Jvm.ClassFile.FieldType.boolean) (0 : Int32) S13
def n_L_law_b1409 (k23 : St → Option Nat → Option Nat → Option Nat → Option Nat → Int32 → Option (Int32 × St)) (S : St) (x0 : Option Nat) (x1 : Option Nat) (x2 : Option Nat) (x3 : Option Nat) (x4 : Int32) : Option (Int32 × St) :=
  gd (grc S x1 0) <|
  bn (n_X1_dead S x1) fun v2 S1 =>
  gd (grc S1 x2 15) <|
  bn (n_X3_dead S1 x2) fun v4 S3 =>
  if v2 = v4 then
    n_L_law_b1790 k23 S3 x0 x1 x2 x3 x4
  else
    rtI id (Jvm.ClassFile.FieldType.boolean) (0 : Int32) S3
def n_L_law_b1396 (k23 : St → Option Nat → Option Nat → Option Nat → Option Nat → Int32 → Option (Int32 × St)) (S : St) (x0 : Option Nat) (x1 : Option Nat) (x2 : Option Nat) (x3 : Option Nat) (x4 : Int32) : Option (Int32 × St) :=
  gd (grc S x1 0) <|
  bn (n_X1_segments S x1) fun v2 S1 =>
  gd (grc S1 x2 15) <|
  bn (n_X3_segments S1 x2) fun v4 S3 =>
  if v2 = v4 then
    n_L_law_b1790 k23 S3 x0 x1 x2 x3 x4
  else
    rtI id (Jvm.ClassFile.FieldType.boolean) (0 : Int32) S3
def n_L_law_b1383 (k23 : St → Option Nat → Option Nat → Option Nat → Option Nat → Int32 → Option (Int32 × St)) (S : St) (x0 : Option Nat) (x1 : Option Nat) (x2 : Option Nat) (x3 : Option Nat) (x4 : Int32) : Option (Int32 × St) :=
  gd (grc S x1 0) <|
  bn (n_X1_stale S x1) fun v2 S1 =>
  gd (grc S1 x2 15) <|
  bn (n_X3_stale S1 x2) fun v4 S3 =>
  if v2 = v4 then
    n_L_law_b1790 k23 S3 x0 x1 x2 x3 x4
  else
    rtI id (Jvm.ClassFile.FieldType.boolean) (0 : Int32) S3
def n_L_law_b1380 (k23 : St → Option Nat → Option Nat → Option Nat → Option Nat → Int32 → Option (Int32 × St)) (S : St) (x0 : Option Nat) (x1 : Option Nat) (x2 : Option Nat) (x3 : Option Nat) (x4 : Int32) : Option (Int32 × St) :=
  n_L_law_b1790 k23 S x0 x1 x2 x3 x4
def n_L_law_b1327 (k23 : St → Option Nat → Option Nat → Option Nat → Option Nat → Int32 → Option (Int32 × St)) (S : St) (x0 : Option Nat) (x1 : Option Nat) (x2 : Option Nat) (x3 : Option Nat) (x4 : Int32) : Option (Int32 × St) :=
  (aI S x0 10 (x4 + (1 : Int32))).bind fun v1 =>
  bn (n_X0_edition S x1 v1 x3) fun v3 S2 =>
  (aI S2 x0 10 (x4 + (1 : Int32))).bind fun v4 =>
  gd (grc S2 x2 15) <|
  bn (n_X3_edition S2 x2 v4) fun v6 S5 =>
  gd (grc S5 x2 15) <|
  bn (n_X3_thrown S5 x2) fun v8 S7 =>
  if v8 = v3 then
    if v3 = 0 then
      (aL S7 x3 3 (0 : Int32)).bind fun v9 =>
      if (gcmp v9 (v6.toInt64)) = 0 then
        n_L_law_b1380 k23 S7 x0 x1 x2 x3 x4
      else
        rtI id (Jvm.ClassFile.FieldType.boolean) (0 : Int32) S7
    else
      n_L_law_b1380 k23 S7 x0 x1 x2 x3 x4
  else
    rtI id (Jvm.ClassFile.FieldType.boolean) (0 : Int32) S7
def n_L_law_b1314 (k23 : St → Option Nat → Option Nat → Option Nat → Option Nat → Int32 → Option (Int32 × St)) (S : St) (x0 : Option Nat) (x1 : Option Nat) (x2 : Option Nat) (x3 : Option Nat) (x4 : Int32) : Option (Int32 × St) :=
  gd (grc S x1 0) <|
  bn (n_X1_entries S x1) fun v2 S1 =>
  gd (grc S1 x2 15) <|
  bn (n_X3_entries S1 x2) fun v4 S3 =>
  if v2 = v4 then
    n_L_law_b1790 k23 S3 x0 x1 x2 x3 x4
  else
    rtI id (Jvm.ClassFile.FieldType.boolean) (0 : Int32) S3
def n_L_law_b1301 (k23 : St → Option Nat → Option Nat → Option Nat → Option Nat → Int32 → Option (Int32 × St)) (S : St) (x0 : Option Nat) (x1 : Option Nat) (x2 : Option Nat) (x3 : Option Nat) (x4 : Int32) : Option (Int32 × St) :=
  gd (grc S x1 0) <|
  bn (n_X1_isQuiet S x1) fun v2 S1 =>
  gd (grc S1 x2 15) <|
  bn (n_X3_isQuiet S1 x2) fun v4 S3 =>
  if v2 = v4 then
    n_L_law_b1790 k23 S3 x0 x1 x2 x3 x4
  else
    rtI id (Jvm.ClassFile.FieldType.boolean) (0 : Int32) S3
def n_L_law_b1288 (k23 : St → Option Nat → Option Nat → Option Nat → Option Nat → Int32 → Option (Int32 × St)) (S : St) (x0 : Option Nat) (x1 : Option Nat) (x2 : Option Nat) (x3 : Option Nat) (x4 : Int32) : Option (Int32 × St) :=
  gd (grc S x1 0) <|
  bn (n_X1_acts S x1) fun v2 S1 =>
  gd (grc S1 x2 15) <|
  bn (n_X3_acts_2 S1 x2) fun v4 S3 =>
  if v2 = v4 then
    n_L_law_b1790 k23 S3 x0 x1 x2 x3 x4
  else
    rtI id (Jvm.ClassFile.FieldType.boolean) (0 : Int32) S3
def n_L_law_b1285 (k23 : St → Option Nat → Option Nat → Option Nat → Option Nat → Int32 → Option (Int32 × St)) (S : St) (x0 : Option Nat) (x1 : Option Nat) (x2 : Option Nat) (x3 : Option Nat) (x4 : Int32) : Option (Int32 × St) :=
  n_L_law_b1790 k23 S x0 x1 x2 x3 x4
def n_L_law_b1232 (k23 : St → Option Nat → Option Nat → Option Nat → Option Nat → Int32 → Option (Int32 × St)) (S : St) (x0 : Option Nat) (x1 : Option Nat) (x2 : Option Nat) (x3 : Option Nat) (x4 : Int32) : Option (Int32 × St) :=
  (aI S x0 10 (x4 + (1 : Int32))).bind fun v1 =>
  bn (n_X0_crawl S x1 v1 x3) fun v3 S2 =>
  (aI S2 x0 10 (x4 + (1 : Int32))).bind fun v4 =>
  gd (grc S2 x2 15) <|
  bn (n_X3_crawl S2 x2 v4) fun v6 S5 =>
  gd (grc S5 x2 15) <|
  bn (n_X3_thrown S5 x2) fun v8 S7 =>
  if v8 = v3 then
    if v3 = 0 then
      (aL S7 x3 3 (0 : Int32)).bind fun v9 =>
      if (gcmp v9 (v6.toInt64)) = 0 then
        n_L_law_b1285 k23 S7 x0 x1 x2 x3 x4
      else
        rtI id (Jvm.ClassFile.FieldType.boolean) (0 : Int32) S7
    else
      n_L_law_b1285 k23 S7 x0 x1 x2 x3 x4
  else
    rtI id (Jvm.ClassFile.FieldType.boolean) (0 : Int32) S7
def n_L_law_b1229 (k23 : St → Option Nat → Option Nat → Option Nat → Option Nat → Int32 → Option (Int32 × St)) (S : St) (x0 : Option Nat) (x1 : Option Nat) (x2 : Option Nat) (x3 : Option Nat) (x4 : Int32) : Option (Int32 × St) :=
  n_L_law_b1790 k23 S x0 x1 x2 x3 x4
def n_L_law_b1176 (k23 : St → Option Nat → Option Nat → Option Nat → Option Nat → Int32 → Option (Int32 × St)) (S : St) (x0 : Option Nat) (x1 : Option Nat) (x2 : Option Nat) (x3 : Option Nat) (x4 : Int32) : Option (Int32 × St) :=
  (aI S x0 10 (x4 + (1 : Int32))).bind fun v1 =>
  bn (n_X0_work S x1 v1 x3) fun v3 S2 =>
  (aI S2 x0 10 (x4 + (1 : Int32))).bind fun v4 =>
  gd (grc S2 x2 15) <|
  bn (n_X3_work S2 x2 v4) fun v6 S5 =>
  gd (grc S5 x2 15) <|
  bn (n_X3_thrown S5 x2) fun v8 S7 =>
  if v8 = v3 then
    if v3 = 0 then
      (aL S7 x3 3 (0 : Int32)).bind fun v9 =>
      if (gcmp v9 (v6.toInt64)) = 0 then
        n_L_law_b1229 k23 S7 x0 x1 x2 x3 x4
      else
        rtI id (Jvm.ClassFile.FieldType.boolean) (0 : Int32) S7
    else
      n_L_law_b1229 k23 S7 x0 x1 x2 x3 x4
  else
    rtI id (Jvm.ClassFile.FieldType.boolean) (0 : Int32) S7
def n_L_law_b1173 (k23 : St → Option Nat → Option Nat → Option Nat → Option Nat → Int32 → Option (Int32 × St)) (S : St) (x0 : Option Nat) (x1 : Option Nat) (x2 : Option Nat) (x3 : Option Nat) (x4 : Int32) : Option (Int32 × St) :=
  n_L_law_b1790 k23 S x0 x1 x2 x3 x4
def n_L_law_b1108 (k23 : St → Option Nat → Option Nat → Option Nat → Option Nat → Int32 → Option (Int32 × St)) (S : St) (x0 : Option Nat) (x1 : Option Nat) (x2 : Option Nat) (x3 : Option Nat) (x4 : Int32) : Option (Int32 × St) :=
  (aI S x0 10 (x4 + (1 : Int32))).bind fun v1 =>
  (aI S x0 10 (x4 + (2 : Int32))).bind fun v2 =>
  bn (n_X0_limits S x1 v1 v2 x3) fun v4 S3 =>
  (aI S3 x0 10 (x4 + (1 : Int32))).bind fun v5 =>
  (aI S3 x0 10 (x4 + (2 : Int32))).bind fun v6 =>
  gd (grc S3 x2 15) <|
  bn (n_X3_limits S3 x2 v5 v6) fun v8 S7 =>
  gd (grc S7 x2 15) <|
  bn (n_X3_thrown S7 x2) fun v10 S9 =>
  if v10 = v4 then
    if v4 = 0 then
      (aL S9 x3 3 (0 : Int32)).bind fun v11 =>
      if (gcmp v11 (v8.toInt64)) = 0 then
        n_L_law_b1173 k23 S9 x0 x1 x2 x3 x4
      else
        rtI id (Jvm.ClassFile.FieldType.boolean) (0 : Int32) S9
    else
      n_L_law_b1173 k23 S9 x0 x1 x2 x3 x4
  else
    rtI id (Jvm.ClassFile.FieldType.boolean) (0 : Int32) S9
def n_L_law_b1100 (k23 : St → Option Nat → Option Nat → Option Nat → Option Nat → Int32 → Option (Int32 × St)) (S : St) (x0 : Option Nat) (x1 : Option Nat) (x2 : Option Nat) (x3 : Option Nat) (x4 : Int32) (y0 : Int32) (y1 : Option Nat) (y2 : Int32) : Option (Int32 × St) :=
  gd (grc S y1 15) <|
  bn (n_X3_battery S y1 y0) fun v2 S1 =>
  if y2 = v2 then
    n_L_law_b1790 k23 S1 x0 x1 x2 x3 x4
  else
    rtI id (Jvm.ClassFile.FieldType.boolean) (0 : Int32) S1
def n_L_law_b1082 (k23 : St → Option Nat → Option Nat → Option Nat → Option Nat → Int32 → Option (Int32 × St)) (S : St) (x0 : Option Nat) (x1 : Option Nat) (x2 : Option Nat) (x3 : Option Nat) (x4 : Int32) (y0 : Int32) (y1 : Option Nat) : Option (Int32 × St) :=
  gd (grc S y1 0) <|
  bn (n_X1_battery S y1 y0) fun v2 S1 =>
  (aI S1 x0 10 (x4 + (1 : Int32))).bind fun v3 =>
  if v3 = 0 then
    n_L_law_b1100 k23 S1 x0 x1 x2 x3 x4 (0 : Int32) x2 v2
  else
    n_L_law_b1100 k23 S1 x0 x1 x2 x3 x4 (1 : Int32) x2 v2
def n_L_law_b1067 (k23 : St → Option Nat → Option Nat → Option Nat → Option Nat → Int32 → Option (Int32 × St)) (S : St) (x0 : Option Nat) (x1 : Option Nat) (x2 : Option Nat) (x3 : Option Nat) (x4 : Int32) : Option (Int32 × St) :=
  (aI S x0 10 (x4 + (1 : Int32))).bind fun v1 =>
  if v1 = 0 then
    n_L_law_b1082 k23 S x0 x1 x2 x3 x4 (0 : Int32) x1
  else
    n_L_law_b1082 k23 S x0 x1 x2 x3 x4 (1 : Int32) x1
def n_L_law_b1064 (k23 : St → Option Nat → Option Nat → Option Nat → Option Nat → Int32 → Option (Int32 × St)) (S : St) (x0 : Option Nat) (x1 : Option Nat) (x2 : Option Nat) (x3 : Option Nat) (x4 : Int32) : Option (Int32 × St) :=
  n_L_law_b1790 k23 S x0 x1 x2 x3 x4
def n_L_law_b1011 (k23 : St → Option Nat → Option Nat → Option Nat → Option Nat → Int32 → Option (Int32 × St)) (S : St) (x0 : Option Nat) (x1 : Option Nat) (x2 : Option Nat) (x3 : Option Nat) (x4 : Int32) : Option (Int32 × St) :=
  (aI S x0 10 (x4 + (1 : Int32))).bind fun v1 =>
  bn (n_X0_pass S x1 v1 x3) fun v3 S2 =>
  (aI S2 x0 10 (x4 + (1 : Int32))).bind fun v4 =>
  gd (grc S2 x2 15) <|
  bn (n_X3_pass S2 x2 v4) fun v6 S5 =>
  gd (grc S5 x2 15) <|
  bn (n_X3_thrown S5 x2) fun v8 S7 =>
  if v8 = v3 then
    if v3 = 0 then
      (aL S7 x3 3 (0 : Int32)).bind fun v9 =>
      if (gcmp v9 (v6.toInt64)) = 0 then
        n_L_law_b1064 k23 S7 x0 x1 x2 x3 x4
      else
        rtI id (Jvm.ClassFile.FieldType.boolean) (0 : Int32) S7
    else
      n_L_law_b1064 k23 S7 x0 x1 x2 x3 x4
  else
    rtI id (Jvm.ClassFile.FieldType.boolean) (0 : Int32) S7
def n_L_law_b1008 (k23 : St → Option Nat → Option Nat → Option Nat → Option Nat → Int32 → Option (Int32 × St)) (S : St) (x0 : Option Nat) (x1 : Option Nat) (x2 : Option Nat) (x3 : Option Nat) (x4 : Int32) : Option (Int32 × St) :=
  n_L_law_b1790 k23 S x0 x1 x2 x3 x4
def n_L_law_b943 (k23 : St → Option Nat → Option Nat → Option Nat → Option Nat → Int32 → Option (Int32 × St)) (S : St) (x0 : Option Nat) (x1 : Option Nat) (x2 : Option Nat) (x3 : Option Nat) (x4 : Int32) : Option (Int32 × St) :=
  (aI S x0 10 (x4 + (1 : Int32))).bind fun v1 =>
  (aI S x0 10 (x4 + (2 : Int32))).bind fun v2 =>
  bn (n_X0_lose S x1 v1 v2 x3) fun v4 S3 =>
  (aI S3 x0 10 (x4 + (1 : Int32))).bind fun v5 =>
  (aI S3 x0 10 (x4 + (2 : Int32))).bind fun v6 =>
  gd (grc S3 x2 15) <|
  bn (n_X3_lose S3 x2 v5 v6) fun v8 S7 =>
  gd (grc S7 x2 15) <|
  bn (n_X3_thrown S7 x2) fun v10 S9 =>
  if v10 = v4 then
    if v4 = 0 then
      (aL S9 x3 3 (0 : Int32)).bind fun v11 =>
      if (gcmp v11 (v8.toInt64)) = 0 then
        n_L_law_b1008 k23 S9 x0 x1 x2 x3 x4
      else
        rtI id (Jvm.ClassFile.FieldType.boolean) (0 : Int32) S9
    else
      n_L_law_b1008 k23 S9 x0 x1 x2 x3 x4
  else
    rtI id (Jvm.ClassFile.FieldType.boolean) (0 : Int32) S9
def n_L_law_b940 (k23 : St → Option Nat → Option Nat → Option Nat → Option Nat → Int32 → Option (Int32 × St)) (S : St) (x0 : Option Nat) (x1 : Option Nat) (x2 : Option Nat) (x3 : Option Nat) (x4 : Int32) : Option (Int32 × St) :=
  n_L_law_b1790 k23 S x0 x1 x2 x3 x4
def n_L_law_b887 (k23 : St → Option Nat → Option Nat → Option Nat → Option Nat → Int32 → Option (Int32 × St)) (S : St) (x0 : Option Nat) (x1 : Option Nat) (x2 : Option Nat) (x3 : Option Nat) (x4 : Int32) : Option (Int32 × St) :=
  (aI S x0 10 (x4 + (1 : Int32))).bind fun v1 =>
  bn (n_X0_twice S x1 v1 x3) fun v3 S2 =>
  (aI S2 x0 10 (x4 + (1 : Int32))).bind fun v4 =>
  gd (grc S2 x2 15) <|
  bn (n_X3_twice S2 x2 v4) fun v6 S5 =>
  gd (grc S5 x2 15) <|
  bn (n_X3_thrown S5 x2) fun v8 S7 =>
  if v8 = v3 then
    if v3 = 0 then
      (aL S7 x3 3 (0 : Int32)).bind fun v9 =>
      if (gcmp v9 (v6.toInt64)) = 0 then
        n_L_law_b940 k23 S7 x0 x1 x2 x3 x4
      else
        rtI id (Jvm.ClassFile.FieldType.boolean) (0 : Int32) S7
    else
      n_L_law_b940 k23 S7 x0 x1 x2 x3 x4
  else
    rtI id (Jvm.ClassFile.FieldType.boolean) (0 : Int32) S7
def n_L_law_b884 (k23 : St → Option Nat → Option Nat → Option Nat → Option Nat → Int32 → Option (Int32 × St)) (S : St) (x0 : Option Nat) (x1 : Option Nat) (x2 : Option Nat) (x3 : Option Nat) (x4 : Int32) : Option (Int32 × St) :=
  n_L_law_b1790 k23 S x0 x1 x2 x3 x4
def n_L_law_b831 (k23 : St → Option Nat → Option Nat → Option Nat → Option Nat → Int32 → Option (Int32 × St)) (S : St) (x0 : Option Nat) (x1 : Option Nat) (x2 : Option Nat) (x3 : Option Nat) (x4 : Int32) : Option (Int32 × St) :=
  (aI S x0 10 (x4 + (1 : Int32))).bind fun v1 =>
  bn (n_X0_notices S x1 v1 x3) fun v3 S2 =>
  (aI S2 x0 10 (x4 + (1 : Int32))).bind fun v4 =>
  gd (grc S2 x2 15) <|
  bn (n_X3_notices S2 x2 v4) fun v6 S5 =>
  gd (grc S5 x2 15) <|
  bn (n_X3_thrown S5 x2) fun v8 S7 =>
  if v8 = v3 then
    if v3 = 0 then
      (aL S7 x3 3 (0 : Int32)).bind fun v9 =>
      if (gcmp v9 (v6.toInt64)) = 0 then
        n_L_law_b884 k23 S7 x0 x1 x2 x3 x4
      else
        rtI id (Jvm.ClassFile.FieldType.boolean) (0 : Int32) S7
    else
      n_L_law_b884 k23 S7 x0 x1 x2 x3 x4
  else
    rtI id (Jvm.ClassFile.FieldType.boolean) (0 : Int32) S7
def n_L_law_b828 (k23 : St → Option Nat → Option Nat → Option Nat → Option Nat → Int32 → Option (Int32 × St)) (S : St) (x0 : Option Nat) (x1 : Option Nat) (x2 : Option Nat) (x3 : Option Nat) (x4 : Int32) : Option (Int32 × St) :=
  n_L_law_b1790 k23 S x0 x1 x2 x3 x4
def n_L_law_b775 (k23 : St → Option Nat → Option Nat → Option Nat → Option Nat → Int32 → Option (Int32 × St)) (S : St) (x0 : Option Nat) (x1 : Option Nat) (x2 : Option Nat) (x3 : Option Nat) (x4 : Int32) : Option (Int32 × St) :=
  (aI S x0 10 (x4 + (1 : Int32))).bind fun v1 =>
  bn (n_X0_watch S x1 v1 x3) fun v3 S2 =>
  (aI S2 x0 10 (x4 + (1 : Int32))).bind fun v4 =>
  gd (grc S2 x2 15) <|
  bn (n_X3_watch S2 x2 v4) fun v6 S5 =>
  gd (grc S5 x2 15) <|
  bn (n_X3_thrown S5 x2) fun v8 S7 =>
  if v8 = v3 then
    if v3 = 0 then
      (aL S7 x3 3 (0 : Int32)).bind fun v9 =>
      if (gcmp v9 (v6.toInt64)) = 0 then
        n_L_law_b828 k23 S7 x0 x1 x2 x3 x4
      else
        rtI id (Jvm.ClassFile.FieldType.boolean) (0 : Int32) S7
    else
      n_L_law_b828 k23 S7 x0 x1 x2 x3 x4
  else
    rtI id (Jvm.ClassFile.FieldType.boolean) (0 : Int32) S7
def n_L_law_b762 (k23 : St → Option Nat → Option Nat → Option Nat → Option Nat → Int32 → Option (Int32 × St)) (S : St) (x0 : Option Nat) (x1 : Option Nat) (x2 : Option Nat) (x3 : Option Nat) (x4 : Int32) : Option (Int32 × St) :=
  gd (grc S x1 0) <|
  bn (n_X1_nodes S x1) fun v2 S1 =>
  gd (grc S1 x2 15) <|
  bn (n_X3_nodes S1 x2) fun v4 S3 =>
  if v2 = v4 then
    n_L_law_b1790 k23 S3 x0 x1 x2 x3 x4
  else
    rtI id (Jvm.ClassFile.FieldType.boolean) (0 : Int32) S3
def n_L_law_b759 (k23 : St → Option Nat → Option Nat → Option Nat → Option Nat → Int32 → Option (Int32 × St)) (S : St) (x0 : Option Nat) (x1 : Option Nat) (x2 : Option Nat) (x3 : Option Nat) (x4 : Int32) : Option (Int32 × St) :=
  n_L_law_b1790 k23 S x0 x1 x2 x3 x4
def n_L_law_b753 (k23 : St → Option Nat → Option Nat → Option Nat → Option Nat → Int32 → Option (Int32 × St)) (S : St) (x0 : Option Nat) (x1 : Option Nat) (x2 : Option Nat) (x3 : Option Nat) (x4 : Int32) (y0 : Int64) (y1 : Int64) : Option (Int32 × St) :=
  if (gcmp y1 y0) = 0 then
    n_L_law_b759 k23 S x0 x1 x2 x3 x4
  else
    rtI id (Jvm.ClassFile.FieldType.boolean) (0 : Int32) S
def n_L_law_b687 (k23 : St → Option Nat → Option Nat → Option Nat → Option Nat → Int32 → Option (Int32 × St)) (S : St) (x0 : Option Nat) (x1 : Option Nat) (x2 : Option Nat) (x3 : Option Nat) (x4 : Int32) : Option (Int32 × St) :=
  (aI S x0 10 (x4 + (1 : Int32))).bind fun v1 =>
  (aI S x0 10 (x4 + (2 : Int32))).bind fun v2 =>
  bn (n_X0_mayRead S x1 v1 v2 x3) fun v4 S3 =>
  (aI S3 x0 10 (x4 + (1 : Int32))).bind fun v5 =>
  (aI S3 x0 10 (x4 + (2 : Int32))).bind fun v6 =>
  gd (grc S3 x2 15) <|
  bn (n_X3_mayRead S3 x2 v5 v6) fun v8 S7 =>
  gd (grc S7 x2 15) <|
  bn (n_X3_thrown S7 x2) fun v10 S9 =>
  if v10 = v4 then
    if v4 = 0 then
      (aL S9 x3 3 (0 : Int32)).bind fun v11 =>
      if v8 = 0 then
        n_L_law_b753 k23 S9 x0 x1 x2 x3 x4 (0 : Int64) v11
      else
        n_L_law_b753 k23 S9 x0 x1 x2 x3 x4 (1 : Int64) v11
    else
      n_L_law_b759 k23 S9 x0 x1 x2 x3 x4
  else
    rtI id (Jvm.ClassFile.FieldType.boolean) (0 : Int32) S9
def n_L_law_b684 (k23 : St → Option Nat → Option Nat → Option Nat → Option Nat → Int32 → Option (Int32 × St)) (S : St) (x0 : Option Nat) (x1 : Option Nat) (x2 : Option Nat) (x3 : Option Nat) (x4 : Int32) : Option (Int32 × St) :=
  n_L_law_b1790 k23 S x0 x1 x2 x3 x4
def n_L_law_b619 (k23 : St → Option Nat → Option Nat → Option Nat → Option Nat → Int32 → Option (Int32 × St)) (S : St) (x0 : Option Nat) (x1 : Option Nat) (x2 : Option Nat) (x3 : Option Nat) (x4 : Int32) : Option (Int32 × St) :=
  (aI S x0 10 (x4 + (1 : Int32))).bind fun v1 =>
  (aI S x0 10 (x4 + (2 : Int32))).bind fun v2 =>
  bn (n_X0_people S x1 v1 v2 x3) fun v4 S3 =>
  (aI S3 x0 10 (x4 + (1 : Int32))).bind fun v5 =>
  (aI S3 x0 10 (x4 + (2 : Int32))).bind fun v6 =>
  gd (grc S3 x2 15) <|
  bn (n_X3_people S3 x2 v5 v6) fun v8 S7 =>
  gd (grc S7 x2 15) <|
  bn (n_X3_thrown S7 x2) fun v10 S9 =>
  if v10 = v4 then
    if v4 = 0 then
      (aL S9 x3 3 (0 : Int32)).bind fun v11 =>
      if (gcmp v11 (v8.toInt64)) = 0 then
        n_L_law_b684 k23 S9 x0 x1 x2 x3 x4
      else
        rtI id (Jvm.ClassFile.FieldType.boolean) (0 : Int32) S9
    else
      n_L_law_b684 k23 S9 x0 x1 x2 x3 x4
  else
    rtI id (Jvm.ClassFile.FieldType.boolean) (0 : Int32) S9
def n_L_law_b616 (k23 : St → Option Nat → Option Nat → Option Nat → Option Nat → Int32 → Option (Int32 × St)) (S : St) (x0 : Option Nat) (x1 : Option Nat) (x2 : Option Nat) (x3 : Option Nat) (x4 : Int32) : Option (Int32 × St) :=
  n_L_law_b1790 k23 S x0 x1 x2 x3 x4
def n_L_law_b610 (k23 : St → Option Nat → Option Nat → Option Nat → Option Nat → Int32 → Option (Int32 × St)) (S : St) (x0 : Option Nat) (x1 : Option Nat) (x2 : Option Nat) (x3 : Option Nat) (x4 : Int32) (y0 : Int64) (y1 : Int64) : Option (Int32 × St) :=
  if (gcmp y1 y0) = 0 then
    n_L_law_b616 k23 S x0 x1 x2 x3 x4
  else
    rtI id (Jvm.ClassFile.FieldType.boolean) (0 : Int32) S
def n_L_law_b576 (k23 : St → Option Nat → Option Nat → Option Nat → Option Nat → Int32 → Option (Int32 × St)) (S : St) (x0 : Option Nat) (x1 : Option Nat) (x2 : Option Nat) (x3 : Option Nat) (x4 : Int32) (x5 : Int32) (y0 : Int32) (y1 : Int32) (y2 : Option Nat) : Option (Int32 × St) :=
  gd (grc S y2 15) <|
  bn (n_X3_lock S y2 y1 y0) fun v2 S1 =>
  gd (grc S1 x2 15) <|
  bn (n_X3_thrown S1 x2) fun v4 S3 =>
  if v4 = x5 then
    if x5 = 0 then
      (aL S3 x3 3 (0 : Int32)).bind fun v5 =>
      if v2 = 0 then
        n_L_law_b610 k23 S3 x0 x1 x2 x3 x4 (0 : Int64) v5
      else
        n_L_law_b610 k23 S3 x0 x1 x2 x3 x4 (1 : Int64) v5
    else
      n_L_law_b616 k23 S3 x0 x1 x2 x3 x4
  else
    rtI id (Jvm.ClassFile.FieldType.boolean) (0 : Int32) S3
def n_L_law_b549 (k23 : St → Option Nat → Option Nat → Option Nat → Option Nat → Int32 → Option (Int32 × St)) (S : St) (x0 : Option Nat) (x1 : Option Nat) (x2 : Option Nat) (x3 : Option Nat) (x4 : Int32) (y0 : Int32) (y1 : Int32) (y2 : Option Nat) : Option (Int32 × St) :=
  bn (n_X0_lock S y2 y1 y0 x3) fun v2 S1 =>
  (aI S1 x0 10 (x4 + (1 : Int32))).bind fun v3 =>
  (aI S1 x0 10 (x4 + (2 : Int32))).bind fun v4 =>
  if v4 = 0 then
    n_L_law_b576 k23 S1 x0 x1 x2 x3 x4 v2 (0 : Int32) v3 x2
  else
    n_L_law_b576 k23 S1 x0 x1 x2 x3 x4 v2 (1 : Int32) v3 x2
def n_L_law_b528 (k23 : St → Option Nat → Option Nat → Option Nat → Option Nat → Int32 → Option (Int32 × St)) (S : St) (x0 : Option Nat) (x1 : Option Nat) (x2 : Option Nat) (x3 : Option Nat) (x4 : Int32) : Option (Int32 × St) :=
  (aI S x0 10 (x4 + (1 : Int32))).bind fun v1 =>
  (aI S x0 10 (x4 + (2 : Int32))).bind fun v2 =>
  if v2 = 0 then
    n_L_law_b549 k23 S x0 x1 x2 x3 x4 (0 : Int32) v1 x1
  else
    n_L_law_b549 k23 S x0 x1 x2 x3 x4 (1 : Int32) v1 x1
def n_L_law_b525 (k23 : St → Option Nat → Option Nat → Option Nat → Option Nat → Int32 → Option (Int32 × St)) (S : St) (x0 : Option Nat) (x1 : Option Nat) (x2 : Option Nat) (x3 : Option Nat) (x4 : Int32) : Option (Int32 × St) :=
  n_L_law_b1790 k23 S x0 x1 x2 x3 x4
def n_L_law_b472 (k23 : St → Option Nat → Option Nat → Option Nat → Option Nat → Int32 → Option (Int32 × St)) (S : St) (x0 : Option Nat) (x1 : Option Nat) (x2 : Option Nat) (x3 : Option Nat) (x4 : Int32) : Option (Int32 × St) :=
  (aI S x0 10 (x4 + (1 : Int32))).bind fun v1 =>
  bn (n_X0_remove S x1 v1 x3) fun v3 S2 =>
  (aI S2 x0 10 (x4 + (1 : Int32))).bind fun v4 =>
  gd (grc S2 x2 15) <|
  bn (n_X3_remove S2 x2 v4) fun v6 S5 =>
  gd (grc S5 x2 15) <|
  bn (n_X3_thrown S5 x2) fun v8 S7 =>
  if v8 = v3 then
    if v3 = 0 then
      (aL S7 x3 3 (0 : Int32)).bind fun v9 =>
      if (gcmp v9 (v6.toInt64)) = 0 then
        n_L_law_b525 k23 S7 x0 x1 x2 x3 x4
      else
        rtI id (Jvm.ClassFile.FieldType.boolean) (0 : Int32) S7
    else
      n_L_law_b525 k23 S7 x0 x1 x2 x3 x4
  else
    rtI id (Jvm.ClassFile.FieldType.boolean) (0 : Int32) S7
def n_L_law_b469 (k23 : St → Option Nat → Option Nat → Option Nat → Option Nat → Int32 → Option (Int32 × St)) (S : St) (x0 : Option Nat) (x1 : Option Nat) (x2 : Option Nat) (x3 : Option Nat) (x4 : Int32) : Option (Int32 × St) :=
  n_L_law_b1790 k23 S x0 x1 x2 x3 x4
def n_L_law_b390 (k23 : St → Option Nat → Option Nat → Option Nat → Option Nat → Int32 → Option (Int32 × St)) (S : St) (x0 : Option Nat) (x1 : Option Nat) (x2 : Option Nat) (x3 : Option Nat) (x4 : Int32) : Option (Int32 × St) :=
  (aI S x0 10 (x4 + (1 : Int32))).bind fun v1 =>
  (aI S x0 10 (x4 + (2 : Int32))).bind fun v2 =>
  (aI S x0 10 (x4 + (3 : Int32))).bind fun v3 =>
  bn (n_X0_move S x1 v1 v2 ((v3.toUInt32 % 65536).toInt32) x3) fun v5 S4 =>
  (aI S4 x0 10 (x4 + (1 : Int32))).bind fun v6 =>
  (aI S4 x0 10 (x4 + (2 : Int32))).bind fun v7 =>
  (aI S4 x0 10 (x4 + (3 : Int32))).bind fun v8 =>
  gd (grc S4 x2 15) <|
  bn (n_X3_move S4 x2 v6 v7 ((v8.toUInt32 % 65536).toInt32)) fun v10 S9 =>
  gd (grc S9 x2 15) <|
  bn (n_X3_thrown S9 x2) fun v12 S11 =>
  if v12 = v5 then
    if v5 = 0 then
      (aL S11 x3 3 (0 : Int32)).bind fun v13 =>
      if (gcmp v13 (v10.toInt64)) = 0 then
        n_L_law_b469 k23 S11 x0 x1 x2 x3 x4
      else
        rtI id (Jvm.ClassFile.FieldType.boolean) (0 : Int32) S11
    else
      n_L_law_b469 k23 S11 x0 x1 x2 x3 x4
  else
    rtI id (Jvm.ClassFile.FieldType.boolean) (0 : Int32) S11
def n_L_law_b387 (k23 : St → Option Nat → Option Nat → Option Nat → Option Nat → Int32 → Option (Int32 × St)) (S : St) (x0 : Option Nat) (x1 : Option Nat) (x2 : Option Nat) (x3 : Option Nat) (x4 : Int32) : Option (Int32 × St) :=
  n_L_law_b1790 k23 S x0 x1 x2 x3 x4
def n_L_law_b334 (k23 : St → Option Nat → Option Nat → Option Nat → Option Nat → Int32 → Option (Int32 × St)) (S : St) (x0 : Option Nat) (x1 : Option Nat) (x2 : Option Nat) (x3 : Option Nat) (x4 : Int32) : Option (Int32 × St) :=
  (aI S x0 10 (x4 + (1 : Int32))).bind fun v1 =>
  bn (n_X0_empty S x1 v1 x3) fun v3 S2 =>
  (aI S2 x0 10 (x4 + (1 : Int32))).bind fun v4 =>
  gd (grc S2 x2 15) <|
  bn (n_X3_empty S2 x2 v4) fun v6 S5 =>
  gd (grc S5 x2 15) <|
  bn (n_X3_thrown S5 x2) fun v8 S7 =>
  if v8 = v3 then
    if v3 = 0 then
      (aL S7 x3 3 (0 : Int32)).bind fun v9 =>
      if (gcmp v9 (v6.toInt64)) = 0 then
        n_L_law_b387 k23 S7 x0 x1 x2 x3 x4
      else
        rtI id (Jvm.ClassFile.FieldType.boolean) (0 : Int32) S7
    else
      n_L_law_b387 k23 S7 x0 x1 x2 x3 x4
  else
    rtI id (Jvm.ClassFile.FieldType.boolean) (0 : Int32) S7
def n_L_law_b331 (k23 : St → Option Nat → Option Nat → Option Nat → Option Nat → Int32 → Option (Int32 × St)) (S : St) (x0 : Option Nat) (x1 : Option Nat) (x2 : Option Nat) (x3 : Option Nat) (x4 : Int32) : Option (Int32 × St) :=
  n_L_law_b1790 k23 S x0 x1 x2 x3 x4
def n_L_law_b266 (k23 : St → Option Nat → Option Nat → Option Nat → Option Nat → Int32 → Option (Int32 × St)) (S : St) (x0 : Option Nat) (x1 : Option Nat) (x2 : Option Nat) (x3 : Option Nat) (x4 : Int32) : Option (Int32 × St) :=
  (aI S x0 10 (x4 + (1 : Int32))).bind fun v1 =>
  (aI S x0 10 (x4 + (2 : Int32))).bind fun v2 =>
  bn (n_X0_write S x1 v1 v2 x3) fun v4 S3 =>
  (aI S3 x0 10 (x4 + (1 : Int32))).bind fun v5 =>
  (aI S3 x0 10 (x4 + (2 : Int32))).bind fun v6 =>
  gd (grc S3 x2 15) <|
  bn (n_X3_write S3 x2 v5 v6) fun v8 S7 =>
  gd (grc S7 x2 15) <|
  bn (n_X3_thrown S7 x2) fun v10 S9 =>
  if v10 = v4 then
    if v4 = 0 then
      (aL S9 x3 3 (0 : Int32)).bind fun v11 =>
      if (gcmp v11 (v8.toInt64)) = 0 then
        n_L_law_b331 k23 S9 x0 x1 x2 x3 x4
      else
        rtI id (Jvm.ClassFile.FieldType.boolean) (0 : Int32) S9
    else
      n_L_law_b331 k23 S9 x0 x1 x2 x3 x4
  else
    rtI id (Jvm.ClassFile.FieldType.boolean) (0 : Int32) S9
def n_L_law_b263 (k23 : St → Option Nat → Option Nat → Option Nat → Option Nat → Int32 → Option (Int32 × St)) (S : St) (x0 : Option Nat) (x1 : Option Nat) (x2 : Option Nat) (x3 : Option Nat) (x4 : Int32) : Option (Int32 × St) :=
  n_L_law_b1790 k23 S x0 x1 x2 x3 x4
def n_L_law_b230 (k23 : St → Option Nat → Option Nat → Option Nat → Option Nat → Int32 → Option (Int32 × St)) (S : St) (x0 : Option Nat) (x1 : Option Nat) (x2 : Option Nat) (x3 : Option Nat) (x4 : Int32) (x5 : Int32) (y0 : Int32) (y1 : Int32) (y2 : Int32) (y3 : Option Nat) : Option (Int32 × St) :=
  gd (grc S y3 15) <|
  bn (n_X3_make S y3 y2 y1 y0) fun v2 S1 =>
  gd (grc S1 x2 15) <|
  bn (n_X3_thrown S1 x2) fun v4 S3 =>
  if v4 = x5 then
    if x5 = 0 then
      (aL S3 x3 3 (0 : Int32)).bind fun v5 =>
      if (gcmp v5 (v2.toInt64)) = 0 then
        n_L_law_b263 k23 S3 x0 x1 x2 x3 x4
      else
        rtI id (Jvm.ClassFile.FieldType.boolean) (0 : Int32) S3
    else
      n_L_law_b263 k23 S3 x0 x1 x2 x3 x4
  else
    rtI id (Jvm.ClassFile.FieldType.boolean) (0 : Int32) S3
def n_L_law_b196 (k23 : St → Option Nat → Option Nat → Option Nat → Option Nat → Int32 → Option (Int32 × St)) (S : St) (x0 : Option Nat) (x1 : Option Nat) (x2 : Option Nat) (x3 : Option Nat) (x4 : Int32) (y0 : Int32) (y1 : Int32) (y2 : Int32) (y3 : Option Nat) : Option (Int32 × St) :=
  bn (n_X0_make S y3 y2 y1 y0 x3) fun v2 S1 =>
  (aI S1 x0 10 (x4 + (1 : Int32))).bind fun v3 =>
  (aI S1 x0 10 (x4 + (2 : Int32))).bind fun v4 =>
  (aI S1 x0 10 (x4 + (3 : Int32))).bind fun v5 =>
  if v5 = 0 then
    n_L_law_b230 k23 S1 x0 x1 x2 x3 x4 v2 (0 : Int32) ((v4.toUInt32 % 65536).toInt32) v3 x2
  else
    n_L_law_b230 k23 S1 x0 x1 x2 x3 x4 v2 (1 : Int32) ((v4.toUInt32 % 65536).toInt32) v3 x2
def n_L_law_b168 (k23 : St → Option Nat → Option Nat → Option Nat → Option Nat → Int32 → Option (Int32 × St)) (S : St) (x0 : Option Nat) (x1 : Option Nat) (x2 : Option Nat) (x3 : Option Nat) (x4 : Int32) : Option (Int32 × St) :=
  (aI S x0 10 (x4 + (1 : Int32))).bind fun v1 =>
  (aI S x0 10 (x4 + (2 : Int32))).bind fun v2 =>
  (aI S x0 10 (x4 + (3 : Int32))).bind fun v3 =>
  if v3 = 0 then
    n_L_law_b196 k23 S x0 x1 x2 x3 x4 (0 : Int32) ((v2.toUInt32 % 65536).toInt32) v1 x1
  else
    n_L_law_b196 k23 S x0 x1 x2 x3 x4 (1 : Int32) ((v2.toUInt32 % 65536).toInt32) v1 x1
def n_L_law_b39 (k23 : St → Option Nat → Option Nat → Option Nat → Option Nat → Int32 → Option (Int32 × St)) (S : St) (x0 : Option Nat) (x1 : Option Nat) (x2 : Option Nat) (x3 : Option Nat) (x4 : Int32) (y0 : Int32) : Option (Int32 × St) :=
  if y0 = (0 : Int32) then n_L_law_b168 k23 S x0 x1 x2 x3 x4 else
  if y0 = (1 : Int32) then n_L_law_b266 k23 S x0 x1 x2 x3 x4 else
  if y0 = (2 : Int32) then n_L_law_b334 k23 S x0 x1 x2 x3 x4 else
  if y0 = (3 : Int32) then n_L_law_b390 k23 S x0 x1 x2 x3 x4 else
  if y0 = (4 : Int32) then n_L_law_b472 k23 S x0 x1 x2 x3 x4 else
  if y0 = (5 : Int32) then n_L_law_b528 k23 S x0 x1 x2 x3 x4 else
  if y0 = (6 : Int32) then n_L_law_b619 k23 S x0 x1 x2 x3 x4 else
  if y0 = (7 : Int32) then n_L_law_b687 k23 S x0 x1 x2 x3 x4 else
  if y0 = (8 : Int32) then n_L_law_b762 k23 S x0 x1 x2 x3 x4 else
  if y0 = (9 : Int32) then n_L_law_b775 k23 S x0 x1 x2 x3 x4 else
  if y0 = (10 : Int32) then n_L_law_b831 k23 S x0 x1 x2 x3 x4 else
  if y0 = (11 : Int32) then n_L_law_b887 k23 S x0 x1 x2 x3 x4 else
  if y0 = (12 : Int32) then n_L_law_b943 k23 S x0 x1 x2 x3 x4 else
  if y0 = (13 : Int32) then n_L_law_b1011 k23 S x0 x1 x2 x3 x4 else
  if y0 = (14 : Int32) then n_L_law_b1067 k23 S x0 x1 x2 x3 x4 else
  if y0 = (15 : Int32) then n_L_law_b1108 k23 S x0 x1 x2 x3 x4 else
  if y0 = (16 : Int32) then n_L_law_b1176 k23 S x0 x1 x2 x3 x4 else
  if y0 = (17 : Int32) then n_L_law_b1232 k23 S x0 x1 x2 x3 x4 else
  if y0 = (18 : Int32) then n_L_law_b1288 k23 S x0 x1 x2 x3 x4 else
  if y0 = (19 : Int32) then n_L_law_b1301 k23 S x0 x1 x2 x3 x4 else
  if y0 = (20 : Int32) then n_L_law_b1314 k23 S x0 x1 x2 x3 x4 else
  if y0 = (21 : Int32) then n_L_law_b1327 k23 S x0 x1 x2 x3 x4 else
  if y0 = (22 : Int32) then n_L_law_b1383 k23 S x0 x1 x2 x3 x4 else
  if y0 = (23 : Int32) then n_L_law_b1396 k23 S x0 x1 x2 x3 x4 else
  if y0 = (24 : Int32) then n_L_law_b1409 k23 S x0 x1 x2 x3 x4 else
  if y0 = (25 : Int32) then n_L_law_b1422 k23 S x0 x1 x2 x3 x4 else
  if y0 = (26 : Int32) then n_L_law_b1514 k23 S x0 x1 x2 x3 x4 else
  if y0 = (27 : Int32) then n_L_law_b1606 k23 S x0 x1 x2 x3 x4 else
  if y0 = (28 : Int32) then n_L_law_b1698 k23 S x0 x1 x2 x3 x4 else
  n_L_law_b1790 k23 S x0 x1 x2 x3 x4
def n_L_law_b23 : Nat → St → Option Nat → Option Nat → Option Nat → Option Nat → Int32 → Option (Int32 × St)
  | 0 => fun _ _ _ _ _ _ => none
  | n + 1 => fun S x0 x1 x2 x3 x4 =>
    (aLn S x0).bind fun v1 =>
    if (v1 - (5 : Int32)) < x4 then
      rtI id (Jvm.ClassFile.FieldType.boolean) (1 : Int32) S
    else
      (aI S x0 10 x4).bind fun v2 =>
      n_L_law_b39 (n_L_law_b23 n) S x0 x1 x2 x3 x4 (v2 &&& (31 : Int32))
def n_L_law (S : St) (x0 : Option Nat) : Option (Int32 × St) :=
  nwB S (cO 0 [vR none, vR none, vR none, vR none, vR none, vR none, vI 0, vI 0, vI 0, vI 0, vI 0, vI 0]) 12 fun q1 S2 =>
  gd (q1).isSome <|
  bn (n_X1_init S2 q1) fun _ S3 =>
  nwB S3 (cO 15 [vI 0, vI 0, vI 0, vR none, vR none, vR none, vR none, vR none, vR none, vR none, vR none, vR none, vI 0, vR none, vR none, vR none, vR none, vR none, vR none, vR none, vR none, vR none, vR none, vR none, vR none, vR none, vR none, vR none, vI 0, vI 0, vI 0, vR none, vR none, vR none, vI 0, vI 0, vI 0, vI 0, vR none, vR none, vR none, vI 0, vR none, vR none, vI 0, vR none]) 46 fun q5 S6 =>
  gd (q5).isSome <|
  bn (n_X3_init S6 q5) fun _ S7 =>
  naB S7 3 (1 : Int32) fun q9 S10 =>
  n_L_law_b23 FU S10 x0 q1 q5 q9 (0 : Int32)
theorem w_L_law_b1790 {K : KT} {r : Int32} {S1 : St} (C : GC K RX0 cL_law 7 41 []) (E : EH (kΓ K) (kHI K) (kl K)) (Q : GQL K r S1) {k23 : St → Option Nat → Option Nat → Option Nat → Option Nat → Int32 → Option (Int32 × St)} (h23 : ∀ (S : St) (x0 : Option Nat) (x1 : Option Nat) (x2 : Option Nat) (x3 : Option Nat) (x4 : Int32), k23 S x0 x1 x2 x3 x4 = some (r, S1) → G K 7 S 23 [(0, vR x0), (1, vR x1), (2, vR x2), (3, vR x3), (4, vI x4)] []) : ∀ (S : St) (x0 : Option Nat) (x1 : Option Nat) (x2 : Option Nat) (x3 : Option Nat) (x4 : Int32), n_L_law_b1790 k23 S x0 x1 x2 x3 x4 = some (r, S1) → G K 7 S 1790 [(0, vR x0), (1, vR x1), (2, vR x2), (3, vR x3), (4, vI x4)] [] := by
  intro S x0 x1 x2 x3 x4 hd
  unfold n_L_law_b1790 at hd
  refine g_iinc (v := x4 + 5) (L' := [(4, vI (x4 + 5)), (0, vR x0), (1, vR x1), (2, vR x2), (3, vR x3)]) C dL_law_1790 4 rfl rfl (by decide) rfl ?_
  refine g_goto (tgt := 23) C dL_law_1793 (by decide) ?_
  refine g_sub [1, 2, 3, 4, 0] rfl ?_
  exact h23 _ _ _ _ _ _ hd
theorem w_L_law_b1787 {K : KT} {r : Int32} {S1 : St} (C : GC K RX0 cL_law 7 41 []) (E : EH (kΓ K) (kHI K) (kl K)) (Q : GQL K r S1) {k23 : St → Option Nat → Option Nat → Option Nat → Option Nat → Int32 → Option (Int32 × St)} (h23 : ∀ (S : St) (x0 : Option Nat) (x1 : Option Nat) (x2 : Option Nat) (x3 : Option Nat) (x4 : Int32), k23 S x0 x1 x2 x3 x4 = some (r, S1) → G K 7 S 23 [(0, vR x0), (1, vR x1), (2, vR x2), (3, vR x3), (4, vI x4)] []) : ∀ (S : St) (x0 : Option Nat) (x1 : Option Nat) (x2 : Option Nat) (x3 : Option Nat) (x4 : Int32), n_L_law_b1787 k23 S x0 x1 x2 x3 x4 = some (r, S1) → G K 7 S 1787 [(0, vR x0), (1, vR x1), (2, vR x2), (3, vR x3), (4, vI x4)] [] := by
  intro S x0 x1 x2 x3 x4 hd
  unfold n_L_law_b1787 at hd
  refine g_goto (tgt := 1790) C dL_law_1787 (by decide) ?_
  refine g_sub [0, 1, 2, 3, 4] rfl ?_
  exact w_L_law_b1790 C E Q h23 _ _ _ _ _ _ hd
theorem w_L_law_b1698 {K : KT} {r : Int32} {S1 : St} (C : GC K RX0 cL_law 7 41 []) (E : EH (kΓ K) (kHI K) (kl K)) (Q : GQL K r S1) {k23 : St → Option Nat → Option Nat → Option Nat → Option Nat → Int32 → Option (Int32 × St)} (h23 : ∀ (S : St) (x0 : Option Nat) (x1 : Option Nat) (x2 : Option Nat) (x3 : Option Nat) (x4 : Int32), k23 S x0 x1 x2 x3 x4 = some (r, S1) → G K 7 S 23 [(0, vR x0), (1, vR x1), (2, vR x2), (3, vR x3), (4, vI x4)] []) : ∀ (S : St) (x0 : Option Nat) (x1 : Option Nat) (x2 : Option Nat) (x3 : Option Nat) (x4 : Int32), n_L_law_b1698 k23 S x0 x1 x2 x3 x4 = some (r, S1) → G K 7 S 1698 [(0, vR x0), (1, vR x1), (2, vR x2), (3, vR x3), (4, vI x4)] [] := by
  intro S x0 x1 x2 x3 x4 hd
  unfold n_L_law_b1698 at hd
  refine g_aload_n C dL_law_1698 rfl 1 rfl ?_
  refine g_aload_n C dL_law_1699 rfl 0 rfl ?_
  refine g_iload C dL_law_1700 4 rfl ?_
  refine g_iconst (v := 1) C dL_law_1702 (by decide) ?_
  refine g_iadd C dL_law_1703 ?_
  obtain ⟨v1, hv1, hd⟩ := Option.bind_eq_some_iff.mp hd
  refine g_iald10 C dL_law_1704 hv1 ?_
  refine g_aload_n C dL_law_1705 rfl 0 rfl ?_
  refine g_iload C dL_law_1706 4 rfl ?_
  refine g_iconst (v := 2) C dL_law_1708 (by decide) ?_
  refine g_iadd C dL_law_1709 ?_
  obtain ⟨v2, hv2, hd⟩ := Option.bind_eq_some_iff.mp hd
  refine g_iald10 C dL_law_1710 hv2 ?_
  refine g_aload_n C dL_law_1711 rfl 0 rfl ?_
  refine g_iload C dL_law_1712 4 rfl ?_
  refine g_iconst (v := 3) C dL_law_1714 (by decide) ?_
  refine g_iadd C dL_law_1715 ?_
  obtain ⟨v3, hv3, hd⟩ := Option.bind_eq_some_iff.mp hd
  refine g_iald10 C dL_law_1716 hv3 ?_
  refine g_aload_n C dL_law_1717 rfl 0 rfl ?_
  refine g_iload C dL_law_1718 4 rfl ?_
  refine g_iconst (v := 4) C dL_law_1720 (by decide) ?_
  refine g_iadd C dL_law_1721 ?_
  obtain ⟨v4, hv4, hd⟩ := Option.bind_eq_some_iff.mp hd
  refine g_iald10 C dL_law_1722 hv4 ?_
  refine g_aload_n C dL_law_1723 rfl 3 rfl ?_
  obtain ⟨v6, S5, hc, hd⟩ := bn_some hd
  refine g_cSW_v (n := 6) C q1953 q1954 q94 q1955 (by decide +kernel) (by decide) (by decide) dL_law_1724 (As := [vR x1, vI v1, vI v2, vI v3, vI v4, vR x3]) (rest := []) rfl rfl (Nat.le_of_ble_eq_true rfl) (m_X0_closest E hc) ?_
  refine g_istore (L' := [(5, vI v6), (0, vR x0), (1, vR x1), (2, vR x2), (3, vR x3), (4, vI x4)]) C dL_law_1727 (by decide) rfl ?_
  refine g_aload_n C dL_law_1729 rfl 3 rfl ?_
  refine g_aload_n C dL_law_1730 rfl 1 rfl ?_
  refine g_iload C dL_law_1731 5 rfl ?_
  refine g_iconst (v := 1) C dL_law_1733 (by decide) ?_
  refine g_iadd C dL_law_1734 ?_
  obtain ⟨v7, hv7, hd⟩ := Option.bind_eq_some_iff.mp hd
  refine g_iald10 C dL_law_1735 hv7 ?_
  refine g_aload_n C dL_law_1736 rfl 1 rfl ?_
  refine g_iload C dL_law_1737 5 rfl ?_
  refine g_iconst (v := 2) C dL_law_1739 (by decide) ?_
  refine g_iadd C dL_law_1740 ?_
  obtain ⟨v8, hv8, hd⟩ := Option.bind_eq_some_iff.mp hd
  refine g_iald10 C dL_law_1741 hv8 ?_
  refine g_aload_n C dL_law_1742 rfl 1 rfl ?_
  refine g_iload C dL_law_1743 5 rfl ?_
  refine g_iconst (v := 3) C dL_law_1745 (by decide) ?_
  refine g_iadd C dL_law_1746 ?_
  obtain ⟨v9, hv9, hd⟩ := Option.bind_eq_some_iff.mp hd
  refine g_iald10 C dL_law_1747 hv9 ?_
  refine g_aload_n C dL_law_1748 rfl 1 rfl ?_
  refine g_iload C dL_law_1749 5 rfl ?_
  refine g_iconst (v := 4) C dL_law_1751 (by decide) ?_
  refine g_iadd C dL_law_1752 ?_
  obtain ⟨v10, hv10, hd⟩ := Option.bind_eq_some_iff.mp hd
  refine g_iald10 C dL_law_1753 hv10 ?_
  obtain ⟨hg, hd⟩ := gd_some hd
  obtain ⟨v12, S11, hc, hd⟩ := bn_some hd
  refine g_cV_v (n := 4) C (gk_X3).1 q2400 q2401 q2402 q108 q2403 (by decide +kernel) (by decide) (by decide) dL_law_1754 (As := [vI v7, vI v8, vI v9, vI v10]) (rest := []) rfl rfl (Nat.le_of_ble_eq_true rfl) hg (m_X3_closest E hc) ?_
  refine g_istore (L' := [(6, vI v12), (5, vI v6), (0, vR x0), (1, vR x1), (2, vR x2), (3, vR x3), (4, vI x4)]) C dL_law_1757 (by decide) rfl ?_
  refine g_aload_n C dL_law_1759 rfl 4 rfl ?_
  obtain ⟨hg, hd⟩ := gd_some hd
  obtain ⟨v14, S13, hc, hd⟩ := bn_some hd
  refine g_cV_v (n := 0) C (gk_X3).1 q2108 q2109 q2110 q108 q2111 (by decide +kernel) (by decide) (by decide) dL_law_1760 (As := []) (rest := []) rfl rfl (Nat.le_of_ble_eq_true rfl) hg (m_X3_thrown E hc) ?_
  refine g_iload C dL_law_1763 1 rfl ?_
  refine g_icmp_eq (tgt := 1770) C dL_law_1765 (by decide) hd (fun hd => ?_) (fun hd => ?_)
  · refine g_iload C dL_law_1770 1 rfl ?_
    refine g_if_ne (tgt := 1787) C dL_law_1772 (by decide) hd (fun hd => ?_) (fun hd => ?_)
    · refine g_sub [2, 3, 4, 5, 6] rfl ?_
      exact w_L_law_b1787 C E Q h23 _ _ _ _ _ _ hd
    · refine g_aload_n C dL_law_1775 rfl 5 rfl ?_
      refine g_iconst (v := 0) C dL_law_1776 (by decide) ?_
      obtain ⟨v15, hv15, hd⟩ := Option.bind_eq_some_iff.mp hd
      refine g_lald C dL_law_1777 hv15 ?_
      refine g_iload C dL_law_1778 0 rfl ?_
      refine g_i2l C dL_law_1780 ?_
      refine g_lcmp C dL_law_1781 ?_
      refine g_if_eq (tgt := 1787) C dL_law_1782 (by decide) hd (fun hd => ?_) (fun hd => ?_)
      · refine g_sub [2, 3, 4, 5, 6] rfl ?_
        exact w_L_law_b1787 C E Q h23 _ _ _ _ _ _ hd
      · refine g_iconst (v := 0) C dL_law_1785 (by decide) ?_
        exact g_lret C Q hd dL_law_1786
  · refine g_iconst (v := 0) C dL_law_1768 (by decide) ?_
    exact g_lret C Q hd dL_law_1769
theorem w_L_law_b1695 {K : KT} {r : Int32} {S1 : St} (C : GC K RX0 cL_law 7 41 []) (E : EH (kΓ K) (kHI K) (kl K)) (Q : GQL K r S1) {k23 : St → Option Nat → Option Nat → Option Nat → Option Nat → Int32 → Option (Int32 × St)} (h23 : ∀ (S : St) (x0 : Option Nat) (x1 : Option Nat) (x2 : Option Nat) (x3 : Option Nat) (x4 : Int32), k23 S x0 x1 x2 x3 x4 = some (r, S1) → G K 7 S 23 [(0, vR x0), (1, vR x1), (2, vR x2), (3, vR x3), (4, vI x4)] []) : ∀ (S : St) (x0 : Option Nat) (x1 : Option Nat) (x2 : Option Nat) (x3 : Option Nat) (x4 : Int32), n_L_law_b1695 k23 S x0 x1 x2 x3 x4 = some (r, S1) → G K 7 S 1695 [(0, vR x0), (1, vR x1), (2, vR x2), (3, vR x3), (4, vI x4)] [] := by
  intro S x0 x1 x2 x3 x4 hd
  unfold n_L_law_b1695 at hd
  refine g_goto (tgt := 1790) C dL_law_1695 (by decide) ?_
  refine g_sub [0, 1, 2, 3, 4] rfl ?_
  exact w_L_law_b1790 C E Q h23 _ _ _ _ _ _ hd
theorem w_L_law_b1606 {K : KT} {r : Int32} {S1 : St} (C : GC K RX0 cL_law 7 41 []) (E : EH (kΓ K) (kHI K) (kl K)) (Q : GQL K r S1) {k23 : St → Option Nat → Option Nat → Option Nat → Option Nat → Int32 → Option (Int32 × St)} (h23 : ∀ (S : St) (x0 : Option Nat) (x1 : Option Nat) (x2 : Option Nat) (x3 : Option Nat) (x4 : Int32), k23 S x0 x1 x2 x3 x4 = some (r, S1) → G K 7 S 23 [(0, vR x0), (1, vR x1), (2, vR x2), (3, vR x3), (4, vI x4)] []) : ∀ (S : St) (x0 : Option Nat) (x1 : Option Nat) (x2 : Option Nat) (x3 : Option Nat) (x4 : Int32), n_L_law_b1606 k23 S x0 x1 x2 x3 x4 = some (r, S1) → G K 7 S 1606 [(0, vR x0), (1, vR x1), (2, vR x2), (3, vR x3), (4, vI x4)] [] := by
  intro S x0 x1 x2 x3 x4 hd
  unfold n_L_law_b1606 at hd
  refine g_aload_n C dL_law_1606 rfl 1 rfl ?_
  refine g_aload_n C dL_law_1607 rfl 0 rfl ?_
  refine g_iload C dL_law_1608 4 rfl ?_
  refine g_iconst (v := 1) C dL_law_1610 (by decide) ?_
  refine g_iadd C dL_law_1611 ?_
  obtain ⟨v1, hv1, hd⟩ := Option.bind_eq_some_iff.mp hd
  refine g_iald10 C dL_law_1612 hv1 ?_
  refine g_aload_n C dL_law_1613 rfl 0 rfl ?_
  refine g_iload C dL_law_1614 4 rfl ?_
  refine g_iconst (v := 2) C dL_law_1616 (by decide) ?_
  refine g_iadd C dL_law_1617 ?_
  obtain ⟨v2, hv2, hd⟩ := Option.bind_eq_some_iff.mp hd
  refine g_iald10 C dL_law_1618 hv2 ?_
  refine g_aload_n C dL_law_1619 rfl 0 rfl ?_
  refine g_iload C dL_law_1620 4 rfl ?_
  refine g_iconst (v := 3) C dL_law_1622 (by decide) ?_
  refine g_iadd C dL_law_1623 ?_
  obtain ⟨v3, hv3, hd⟩ := Option.bind_eq_some_iff.mp hd
  refine g_iald10 C dL_law_1624 hv3 ?_
  refine g_aload_n C dL_law_1625 rfl 0 rfl ?_
  refine g_iload C dL_law_1626 4 rfl ?_
  refine g_iconst (v := 4) C dL_law_1628 (by decide) ?_
  refine g_iadd C dL_law_1629 ?_
  obtain ⟨v4, hv4, hd⟩ := Option.bind_eq_some_iff.mp hd
  refine g_iald10 C dL_law_1630 hv4 ?_
  refine g_aload_n C dL_law_1631 rfl 3 rfl ?_
  obtain ⟨v6, S5, hc, hd⟩ := bn_some hd
  refine g_cSW_v (n := 6) C q1946 q1947 q94 q1948 (by decide +kernel) (by decide) (by decide) dL_law_1632 (As := [vR x1, vI v1, vI v2, vI v3, vI v4, vR x3]) (rest := []) rfl rfl (Nat.le_of_ble_eq_true rfl) (m_X0_answer E hc) ?_
  refine g_istore (L' := [(5, vI v6), (0, vR x0), (1, vR x1), (2, vR x2), (3, vR x3), (4, vI x4)]) C dL_law_1635 (by decide) rfl ?_
  refine g_aload_n C dL_law_1637 rfl 3 rfl ?_
  refine g_aload_n C dL_law_1638 rfl 1 rfl ?_
  refine g_iload C dL_law_1639 5 rfl ?_
  refine g_iconst (v := 1) C dL_law_1641 (by decide) ?_
  refine g_iadd C dL_law_1642 ?_
  obtain ⟨v7, hv7, hd⟩ := Option.bind_eq_some_iff.mp hd
  refine g_iald10 C dL_law_1643 hv7 ?_
  refine g_aload_n C dL_law_1644 rfl 1 rfl ?_
  refine g_iload C dL_law_1645 5 rfl ?_
  refine g_iconst (v := 2) C dL_law_1647 (by decide) ?_
  refine g_iadd C dL_law_1648 ?_
  obtain ⟨v8, hv8, hd⟩ := Option.bind_eq_some_iff.mp hd
  refine g_iald10 C dL_law_1649 hv8 ?_
  refine g_aload_n C dL_law_1650 rfl 1 rfl ?_
  refine g_iload C dL_law_1651 5 rfl ?_
  refine g_iconst (v := 3) C dL_law_1653 (by decide) ?_
  refine g_iadd C dL_law_1654 ?_
  obtain ⟨v9, hv9, hd⟩ := Option.bind_eq_some_iff.mp hd
  refine g_iald10 C dL_law_1655 hv9 ?_
  refine g_aload_n C dL_law_1656 rfl 1 rfl ?_
  refine g_iload C dL_law_1657 5 rfl ?_
  refine g_iconst (v := 4) C dL_law_1659 (by decide) ?_
  refine g_iadd C dL_law_1660 ?_
  obtain ⟨v10, hv10, hd⟩ := Option.bind_eq_some_iff.mp hd
  refine g_iald10 C dL_law_1661 hv10 ?_
  obtain ⟨hg, hd⟩ := gd_some hd
  obtain ⟨v12, S11, hc, hd⟩ := bn_some hd
  refine g_cV_v (n := 4) C (gk_X3).1 q2392 q2393 q2394 q108 q2395 (by decide +kernel) (by decide) (by decide) dL_law_1662 (As := [vI v7, vI v8, vI v9, vI v10]) (rest := []) rfl rfl (Nat.le_of_ble_eq_true rfl) hg (m_X3_answer E hc) ?_
  refine g_istore (L' := [(6, vI v12), (5, vI v6), (0, vR x0), (1, vR x1), (2, vR x2), (3, vR x3), (4, vI x4)]) C dL_law_1665 (by decide) rfl ?_
  refine g_aload_n C dL_law_1667 rfl 4 rfl ?_
  obtain ⟨hg, hd⟩ := gd_some hd
  obtain ⟨v14, S13, hc, hd⟩ := bn_some hd
  refine g_cV_v (n := 0) C (gk_X3).1 q2108 q2109 q2110 q108 q2111 (by decide +kernel) (by decide) (by decide) dL_law_1668 (As := []) (rest := []) rfl rfl (Nat.le_of_ble_eq_true rfl) hg (m_X3_thrown E hc) ?_
  refine g_iload C dL_law_1671 1 rfl ?_
  refine g_icmp_eq (tgt := 1678) C dL_law_1673 (by decide) hd (fun hd => ?_) (fun hd => ?_)
  · refine g_iload C dL_law_1678 1 rfl ?_
    refine g_if_ne (tgt := 1695) C dL_law_1680 (by decide) hd (fun hd => ?_) (fun hd => ?_)
    · refine g_sub [2, 3, 4, 5, 6] rfl ?_
      exact w_L_law_b1695 C E Q h23 _ _ _ _ _ _ hd
    · refine g_aload_n C dL_law_1683 rfl 5 rfl ?_
      refine g_iconst (v := 0) C dL_law_1684 (by decide) ?_
      obtain ⟨v15, hv15, hd⟩ := Option.bind_eq_some_iff.mp hd
      refine g_lald C dL_law_1685 hv15 ?_
      refine g_iload C dL_law_1686 0 rfl ?_
      refine g_i2l C dL_law_1688 ?_
      refine g_lcmp C dL_law_1689 ?_
      refine g_if_eq (tgt := 1695) C dL_law_1690 (by decide) hd (fun hd => ?_) (fun hd => ?_)
      · refine g_sub [2, 3, 4, 5, 6] rfl ?_
        exact w_L_law_b1695 C E Q h23 _ _ _ _ _ _ hd
      · refine g_iconst (v := 0) C dL_law_1693 (by decide) ?_
        exact g_lret C Q hd dL_law_1694
  · refine g_iconst (v := 0) C dL_law_1676 (by decide) ?_
    exact g_lret C Q hd dL_law_1677
theorem w_L_law_b1603 {K : KT} {r : Int32} {S1 : St} (C : GC K RX0 cL_law 7 41 []) (E : EH (kΓ K) (kHI K) (kl K)) (Q : GQL K r S1) {k23 : St → Option Nat → Option Nat → Option Nat → Option Nat → Int32 → Option (Int32 × St)} (h23 : ∀ (S : St) (x0 : Option Nat) (x1 : Option Nat) (x2 : Option Nat) (x3 : Option Nat) (x4 : Int32), k23 S x0 x1 x2 x3 x4 = some (r, S1) → G K 7 S 23 [(0, vR x0), (1, vR x1), (2, vR x2), (3, vR x3), (4, vI x4)] []) : ∀ (S : St) (x0 : Option Nat) (x1 : Option Nat) (x2 : Option Nat) (x3 : Option Nat) (x4 : Int32), n_L_law_b1603 k23 S x0 x1 x2 x3 x4 = some (r, S1) → G K 7 S 1603 [(0, vR x0), (1, vR x1), (2, vR x2), (3, vR x3), (4, vI x4)] [] := by
  intro S x0 x1 x2 x3 x4 hd
  unfold n_L_law_b1603 at hd
  refine g_goto (tgt := 1790) C dL_law_1603 (by decide) ?_
  refine g_sub [0, 1, 2, 3, 4] rfl ?_
  exact w_L_law_b1790 C E Q h23 _ _ _ _ _ _ hd
theorem w_L_law_b1514 {K : KT} {r : Int32} {S1 : St} (C : GC K RX0 cL_law 7 41 []) (E : EH (kΓ K) (kHI K) (kl K)) (Q : GQL K r S1) {k23 : St → Option Nat → Option Nat → Option Nat → Option Nat → Int32 → Option (Int32 × St)} (h23 : ∀ (S : St) (x0 : Option Nat) (x1 : Option Nat) (x2 : Option Nat) (x3 : Option Nat) (x4 : Int32), k23 S x0 x1 x2 x3 x4 = some (r, S1) → G K 7 S 23 [(0, vR x0), (1, vR x1), (2, vR x2), (3, vR x3), (4, vI x4)] []) : ∀ (S : St) (x0 : Option Nat) (x1 : Option Nat) (x2 : Option Nat) (x3 : Option Nat) (x4 : Int32), n_L_law_b1514 k23 S x0 x1 x2 x3 x4 = some (r, S1) → G K 7 S 1514 [(0, vR x0), (1, vR x1), (2, vR x2), (3, vR x3), (4, vI x4)] [] := by
  intro S x0 x1 x2 x3 x4 hd
  unfold n_L_law_b1514 at hd
  refine g_aload_n C dL_law_1514 rfl 1 rfl ?_
  refine g_aload_n C dL_law_1515 rfl 0 rfl ?_
  refine g_iload C dL_law_1516 4 rfl ?_
  refine g_iconst (v := 1) C dL_law_1518 (by decide) ?_
  refine g_iadd C dL_law_1519 ?_
  obtain ⟨v1, hv1, hd⟩ := Option.bind_eq_some_iff.mp hd
  refine g_iald10 C dL_law_1520 hv1 ?_
  refine g_aload_n C dL_law_1521 rfl 0 rfl ?_
  refine g_iload C dL_law_1522 4 rfl ?_
  refine g_iconst (v := 2) C dL_law_1524 (by decide) ?_
  refine g_iadd C dL_law_1525 ?_
  obtain ⟨v2, hv2, hd⟩ := Option.bind_eq_some_iff.mp hd
  refine g_iald10 C dL_law_1526 hv2 ?_
  refine g_aload_n C dL_law_1527 rfl 0 rfl ?_
  refine g_iload C dL_law_1528 4 rfl ?_
  refine g_iconst (v := 3) C dL_law_1530 (by decide) ?_
  refine g_iadd C dL_law_1531 ?_
  obtain ⟨v3, hv3, hd⟩ := Option.bind_eq_some_iff.mp hd
  refine g_iald10 C dL_law_1532 hv3 ?_
  refine g_aload_n C dL_law_1533 rfl 0 rfl ?_
  refine g_iload C dL_law_1534 4 rfl ?_
  refine g_iconst (v := 4) C dL_law_1536 (by decide) ?_
  refine g_iadd C dL_law_1537 ?_
  obtain ⟨v4, hv4, hd⟩ := Option.bind_eq_some_iff.mp hd
  refine g_iald10 C dL_law_1538 hv4 ?_
  refine g_aload_n C dL_law_1539 rfl 3 rfl ?_
  obtain ⟨v6, S5, hc, hd⟩ := bn_some hd
  refine g_cSW_v (n := 6) C q1939 q1940 q94 q1941 (by decide +kernel) (by decide) (by decide) dL_law_1540 (As := [vR x1, vI v1, vI v2, vI v3, vI v4, vR x3]) (rest := []) rfl rfl (Nat.le_of_ble_eq_true rfl) (m_X0_answersAnew E hc) ?_
  refine g_istore (L' := [(5, vI v6), (0, vR x0), (1, vR x1), (2, vR x2), (3, vR x3), (4, vI x4)]) C dL_law_1543 (by decide) rfl ?_
  refine g_aload_n C dL_law_1545 rfl 3 rfl ?_
  refine g_aload_n C dL_law_1546 rfl 1 rfl ?_
  refine g_iload C dL_law_1547 5 rfl ?_
  refine g_iconst (v := 1) C dL_law_1549 (by decide) ?_
  refine g_iadd C dL_law_1550 ?_
  obtain ⟨v7, hv7, hd⟩ := Option.bind_eq_some_iff.mp hd
  refine g_iald10 C dL_law_1551 hv7 ?_
  refine g_aload_n C dL_law_1552 rfl 1 rfl ?_
  refine g_iload C dL_law_1553 5 rfl ?_
  refine g_iconst (v := 2) C dL_law_1555 (by decide) ?_
  refine g_iadd C dL_law_1556 ?_
  obtain ⟨v8, hv8, hd⟩ := Option.bind_eq_some_iff.mp hd
  refine g_iald10 C dL_law_1557 hv8 ?_
  refine g_aload_n C dL_law_1558 rfl 1 rfl ?_
  refine g_iload C dL_law_1559 5 rfl ?_
  refine g_iconst (v := 3) C dL_law_1561 (by decide) ?_
  refine g_iadd C dL_law_1562 ?_
  obtain ⟨v9, hv9, hd⟩ := Option.bind_eq_some_iff.mp hd
  refine g_iald10 C dL_law_1563 hv9 ?_
  refine g_aload_n C dL_law_1564 rfl 1 rfl ?_
  refine g_iload C dL_law_1565 5 rfl ?_
  refine g_iconst (v := 4) C dL_law_1567 (by decide) ?_
  refine g_iadd C dL_law_1568 ?_
  obtain ⟨v10, hv10, hd⟩ := Option.bind_eq_some_iff.mp hd
  refine g_iald10 C dL_law_1569 hv10 ?_
  obtain ⟨hg, hd⟩ := gd_some hd
  obtain ⟨v12, S11, hc, hd⟩ := bn_some hd
  refine g_cV_v (n := 4) C (gk_X3).1 q2388 q2389 q2390 q108 q2391 (by decide +kernel) (by decide) (by decide) dL_law_1570 (As := [vI v7, vI v8, vI v9, vI v10]) (rest := []) rfl rfl (Nat.le_of_ble_eq_true rfl) hg (m_X3_answersAnew E hc) ?_
  refine g_istore (L' := [(6, vI v12), (5, vI v6), (0, vR x0), (1, vR x1), (2, vR x2), (3, vR x3), (4, vI x4)]) C dL_law_1573 (by decide) rfl ?_
  refine g_aload_n C dL_law_1575 rfl 4 rfl ?_
  obtain ⟨hg, hd⟩ := gd_some hd
  obtain ⟨v14, S13, hc, hd⟩ := bn_some hd
  refine g_cV_v (n := 0) C (gk_X3).1 q2108 q2109 q2110 q108 q2111 (by decide +kernel) (by decide) (by decide) dL_law_1576 (As := []) (rest := []) rfl rfl (Nat.le_of_ble_eq_true rfl) hg (m_X3_thrown E hc) ?_
  refine g_iload C dL_law_1579 1 rfl ?_
  refine g_icmp_eq (tgt := 1586) C dL_law_1581 (by decide) hd (fun hd => ?_) (fun hd => ?_)
  · refine g_iload C dL_law_1586 1 rfl ?_
    refine g_if_ne (tgt := 1603) C dL_law_1588 (by decide) hd (fun hd => ?_) (fun hd => ?_)
    · refine g_sub [2, 3, 4, 5, 6] rfl ?_
      exact w_L_law_b1603 C E Q h23 _ _ _ _ _ _ hd
    · refine g_aload_n C dL_law_1591 rfl 5 rfl ?_
      refine g_iconst (v := 0) C dL_law_1592 (by decide) ?_
      obtain ⟨v15, hv15, hd⟩ := Option.bind_eq_some_iff.mp hd
      refine g_lald C dL_law_1593 hv15 ?_
      refine g_iload C dL_law_1594 0 rfl ?_
      refine g_i2l C dL_law_1596 ?_
      refine g_lcmp C dL_law_1597 ?_
      refine g_if_eq (tgt := 1603) C dL_law_1598 (by decide) hd (fun hd => ?_) (fun hd => ?_)
      · refine g_sub [2, 3, 4, 5, 6] rfl ?_
        exact w_L_law_b1603 C E Q h23 _ _ _ _ _ _ hd
      · refine g_iconst (v := 0) C dL_law_1601 (by decide) ?_
        exact g_lret C Q hd dL_law_1602
  · refine g_iconst (v := 0) C dL_law_1584 (by decide) ?_
    exact g_lret C Q hd dL_law_1585
theorem w_L_law_b1511 {K : KT} {r : Int32} {S1 : St} (C : GC K RX0 cL_law 7 41 []) (E : EH (kΓ K) (kHI K) (kl K)) (Q : GQL K r S1) {k23 : St → Option Nat → Option Nat → Option Nat → Option Nat → Int32 → Option (Int32 × St)} (h23 : ∀ (S : St) (x0 : Option Nat) (x1 : Option Nat) (x2 : Option Nat) (x3 : Option Nat) (x4 : Int32), k23 S x0 x1 x2 x3 x4 = some (r, S1) → G K 7 S 23 [(0, vR x0), (1, vR x1), (2, vR x2), (3, vR x3), (4, vI x4)] []) : ∀ (S : St) (x0 : Option Nat) (x1 : Option Nat) (x2 : Option Nat) (x3 : Option Nat) (x4 : Int32), n_L_law_b1511 k23 S x0 x1 x2 x3 x4 = some (r, S1) → G K 7 S 1511 [(0, vR x0), (1, vR x1), (2, vR x2), (3, vR x3), (4, vI x4)] [] := by
  intro S x0 x1 x2 x3 x4 hd
  unfold n_L_law_b1511 at hd
  refine g_goto (tgt := 1790) C dL_law_1511 (by decide) ?_
  refine g_sub [0, 1, 2, 3, 4] rfl ?_
  exact w_L_law_b1790 C E Q h23 _ _ _ _ _ _ hd
theorem w_L_law_b1422 {K : KT} {r : Int32} {S1 : St} (C : GC K RX0 cL_law 7 41 []) (E : EH (kΓ K) (kHI K) (kl K)) (Q : GQL K r S1) {k23 : St → Option Nat → Option Nat → Option Nat → Option Nat → Int32 → Option (Int32 × St)} (h23 : ∀ (S : St) (x0 : Option Nat) (x1 : Option Nat) (x2 : Option Nat) (x3 : Option Nat) (x4 : Int32), k23 S x0 x1 x2 x3 x4 = some (r, S1) → G K 7 S 23 [(0, vR x0), (1, vR x1), (2, vR x2), (3, vR x3), (4, vI x4)] []) : ∀ (S : St) (x0 : Option Nat) (x1 : Option Nat) (x2 : Option Nat) (x3 : Option Nat) (x4 : Int32), n_L_law_b1422 k23 S x0 x1 x2 x3 x4 = some (r, S1) → G K 7 S 1422 [(0, vR x0), (1, vR x1), (2, vR x2), (3, vR x3), (4, vI x4)] [] := by
  intro S x0 x1 x2 x3 x4 hd
  unfold n_L_law_b1422 at hd
  refine g_aload_n C dL_law_1422 rfl 1 rfl ?_
  refine g_aload_n C dL_law_1423 rfl 0 rfl ?_
  refine g_iload C dL_law_1424 4 rfl ?_
  refine g_iconst (v := 1) C dL_law_1426 (by decide) ?_
  refine g_iadd C dL_law_1427 ?_
  obtain ⟨v1, hv1, hd⟩ := Option.bind_eq_some_iff.mp hd
  refine g_iald10 C dL_law_1428 hv1 ?_
  refine g_aload_n C dL_law_1429 rfl 0 rfl ?_
  refine g_iload C dL_law_1430 4 rfl ?_
  refine g_iconst (v := 2) C dL_law_1432 (by decide) ?_
  refine g_iadd C dL_law_1433 ?_
  obtain ⟨v2, hv2, hd⟩ := Option.bind_eq_some_iff.mp hd
  refine g_iald10 C dL_law_1434 hv2 ?_
  refine g_aload_n C dL_law_1435 rfl 0 rfl ?_
  refine g_iload C dL_law_1436 4 rfl ?_
  refine g_iconst (v := 3) C dL_law_1438 (by decide) ?_
  refine g_iadd C dL_law_1439 ?_
  obtain ⟨v3, hv3, hd⟩ := Option.bind_eq_some_iff.mp hd
  refine g_iald10 C dL_law_1440 hv3 ?_
  refine g_aload_n C dL_law_1441 rfl 0 rfl ?_
  refine g_iload C dL_law_1442 4 rfl ?_
  refine g_iconst (v := 4) C dL_law_1444 (by decide) ?_
  refine g_iadd C dL_law_1445 ?_
  obtain ⟨v4, hv4, hd⟩ := Option.bind_eq_some_iff.mp hd
  refine g_iald10 C dL_law_1446 hv4 ?_
  refine g_aload_n C dL_law_1447 rfl 3 rfl ?_
  obtain ⟨v6, S5, hc, hd⟩ := bn_some hd
  refine g_cSW_v (n := 6) C q1895 q1896 q94 q1897 (by decide +kernel) (by decide) (by decide) dL_law_1448 (As := [vR x1, vI v1, vI v2, vI v3, vI v4, vR x3]) (rest := []) rfl rfl (Nat.le_of_ble_eq_true rfl) (m_X0_answers E hc) ?_
  refine g_istore (L' := [(5, vI v6), (0, vR x0), (1, vR x1), (2, vR x2), (3, vR x3), (4, vI x4)]) C dL_law_1451 (by decide) rfl ?_
  refine g_aload_n C dL_law_1453 rfl 3 rfl ?_
  refine g_aload_n C dL_law_1454 rfl 1 rfl ?_
  refine g_iload C dL_law_1455 5 rfl ?_
  refine g_iconst (v := 1) C dL_law_1457 (by decide) ?_
  refine g_iadd C dL_law_1458 ?_
  obtain ⟨v7, hv7, hd⟩ := Option.bind_eq_some_iff.mp hd
  refine g_iald10 C dL_law_1459 hv7 ?_
  refine g_aload_n C dL_law_1460 rfl 1 rfl ?_
  refine g_iload C dL_law_1461 5 rfl ?_
  refine g_iconst (v := 2) C dL_law_1463 (by decide) ?_
  refine g_iadd C dL_law_1464 ?_
  obtain ⟨v8, hv8, hd⟩ := Option.bind_eq_some_iff.mp hd
  refine g_iald10 C dL_law_1465 hv8 ?_
  refine g_aload_n C dL_law_1466 rfl 1 rfl ?_
  refine g_iload C dL_law_1467 5 rfl ?_
  refine g_iconst (v := 3) C dL_law_1469 (by decide) ?_
  refine g_iadd C dL_law_1470 ?_
  obtain ⟨v9, hv9, hd⟩ := Option.bind_eq_some_iff.mp hd
  refine g_iald10 C dL_law_1471 hv9 ?_
  refine g_aload_n C dL_law_1472 rfl 1 rfl ?_
  refine g_iload C dL_law_1473 5 rfl ?_
  refine g_iconst (v := 4) C dL_law_1475 (by decide) ?_
  refine g_iadd C dL_law_1476 ?_
  obtain ⟨v10, hv10, hd⟩ := Option.bind_eq_some_iff.mp hd
  refine g_iald10 C dL_law_1477 hv10 ?_
  obtain ⟨hg, hd⟩ := gd_some hd
  obtain ⟨v12, S11, hc, hd⟩ := bn_some hd
  refine g_cV_v (n := 4) C (gk_X3).1 q2364 q2365 q2366 q108 q2367 (by decide +kernel) (by decide) (by decide) dL_law_1478 (As := [vI v7, vI v8, vI v9, vI v10]) (rest := []) rfl rfl (Nat.le_of_ble_eq_true rfl) hg (m_X3_answers E hc) ?_
  refine g_istore (L' := [(6, vI v12), (5, vI v6), (0, vR x0), (1, vR x1), (2, vR x2), (3, vR x3), (4, vI x4)]) C dL_law_1481 (by decide) rfl ?_
  refine g_aload_n C dL_law_1483 rfl 4 rfl ?_
  obtain ⟨hg, hd⟩ := gd_some hd
  obtain ⟨v14, S13, hc, hd⟩ := bn_some hd
  refine g_cV_v (n := 0) C (gk_X3).1 q2108 q2109 q2110 q108 q2111 (by decide +kernel) (by decide) (by decide) dL_law_1484 (As := []) (rest := []) rfl rfl (Nat.le_of_ble_eq_true rfl) hg (m_X3_thrown E hc) ?_
  refine g_iload C dL_law_1487 1 rfl ?_
  refine g_icmp_eq (tgt := 1494) C dL_law_1489 (by decide) hd (fun hd => ?_) (fun hd => ?_)
  · refine g_iload C dL_law_1494 1 rfl ?_
    refine g_if_ne (tgt := 1511) C dL_law_1496 (by decide) hd (fun hd => ?_) (fun hd => ?_)
    · refine g_sub [2, 3, 4, 5, 6] rfl ?_
      exact w_L_law_b1511 C E Q h23 _ _ _ _ _ _ hd
    · refine g_aload_n C dL_law_1499 rfl 5 rfl ?_
      refine g_iconst (v := 0) C dL_law_1500 (by decide) ?_
      obtain ⟨v15, hv15, hd⟩ := Option.bind_eq_some_iff.mp hd
      refine g_lald C dL_law_1501 hv15 ?_
      refine g_iload C dL_law_1502 0 rfl ?_
      refine g_i2l C dL_law_1504 ?_
      refine g_lcmp C dL_law_1505 ?_
      refine g_if_eq (tgt := 1511) C dL_law_1506 (by decide) hd (fun hd => ?_) (fun hd => ?_)
      · refine g_sub [2, 3, 4, 5, 6] rfl ?_
        exact w_L_law_b1511 C E Q h23 _ _ _ _ _ _ hd
      · refine g_iconst (v := 0) C dL_law_1509 (by decide) ?_
        exact g_lret C Q hd dL_law_1510
  · refine g_iconst (v := 0) C dL_law_1492 (by decide) ?_
    exact g_lret C Q hd dL_law_1493
theorem w_L_law_b1409 {K : KT} {r : Int32} {S1 : St} (C : GC K RX0 cL_law 7 41 []) (E : EH (kΓ K) (kHI K) (kl K)) (Q : GQL K r S1) {k23 : St → Option Nat → Option Nat → Option Nat → Option Nat → Int32 → Option (Int32 × St)} (h23 : ∀ (S : St) (x0 : Option Nat) (x1 : Option Nat) (x2 : Option Nat) (x3 : Option Nat) (x4 : Int32), k23 S x0 x1 x2 x3 x4 = some (r, S1) → G K 7 S 23 [(0, vR x0), (1, vR x1), (2, vR x2), (3, vR x3), (4, vI x4)] []) : ∀ (S : St) (x0 : Option Nat) (x1 : Option Nat) (x2 : Option Nat) (x3 : Option Nat) (x4 : Int32), n_L_law_b1409 k23 S x0 x1 x2 x3 x4 = some (r, S1) → G K 7 S 1409 [(0, vR x0), (1, vR x1), (2, vR x2), (3, vR x3), (4, vI x4)] [] := by
  intro S x0 x1 x2 x3 x4 hd
  unfold n_L_law_b1409 at hd
  refine g_aload_n C dL_law_1409 rfl 1 rfl ?_
  obtain ⟨hg, hd⟩ := gd_some hd
  obtain ⟨v2, S1, hc, hd⟩ := bn_some hd
  refine g_cV_v (n := 0) C (gk_X1).1 q1092 q1093 q1094 q95 q1095 (by decide +kernel) (by decide) (by decide) dL_law_1410 (As := []) (rest := []) rfl rfl (Nat.le_of_ble_eq_true rfl) hg (m_X1_dead E hc) ?_
  refine g_aload_n C dL_law_1413 rfl 2 rfl ?_
  obtain ⟨hg, hd⟩ := gd_some hd
  obtain ⟨v4, S3, hc, hd⟩ := bn_some hd
  refine g_cV_v (n := 0) C (gk_X3).1 q2360 q2361 q2362 q108 q2363 (by decide +kernel) (by decide) (by decide) dL_law_1414 (As := []) (rest := [vI v2]) rfl rfl (Nat.le_of_ble_eq_true rfl) hg (m_X3_dead E hc) ?_
  refine g_icmp_eq (tgt := 1790) C dL_law_1417 (by decide) hd (fun hd => ?_) (fun hd => ?_)
  · refine g_sub [0, 1, 2, 3, 4] rfl ?_
    exact w_L_law_b1790 C E Q h23 _ _ _ _ _ _ hd
  · refine g_iconst (v := 0) C dL_law_1420 (by decide) ?_
    exact g_lret C Q hd dL_law_1421
theorem w_L_law_b1396 {K : KT} {r : Int32} {S1 : St} (C : GC K RX0 cL_law 7 41 []) (E : EH (kΓ K) (kHI K) (kl K)) (Q : GQL K r S1) {k23 : St → Option Nat → Option Nat → Option Nat → Option Nat → Int32 → Option (Int32 × St)} (h23 : ∀ (S : St) (x0 : Option Nat) (x1 : Option Nat) (x2 : Option Nat) (x3 : Option Nat) (x4 : Int32), k23 S x0 x1 x2 x3 x4 = some (r, S1) → G K 7 S 23 [(0, vR x0), (1, vR x1), (2, vR x2), (3, vR x3), (4, vI x4)] []) : ∀ (S : St) (x0 : Option Nat) (x1 : Option Nat) (x2 : Option Nat) (x3 : Option Nat) (x4 : Int32), n_L_law_b1396 k23 S x0 x1 x2 x3 x4 = some (r, S1) → G K 7 S 1396 [(0, vR x0), (1, vR x1), (2, vR x2), (3, vR x3), (4, vI x4)] [] := by
  intro S x0 x1 x2 x3 x4 hd
  unfold n_L_law_b1396 at hd
  refine g_aload_n C dL_law_1396 rfl 1 rfl ?_
  obtain ⟨hg, hd⟩ := gd_some hd
  obtain ⟨v2, S1, hc, hd⟩ := bn_some hd
  refine g_cV_v (n := 0) C (gk_X1).1 q1088 q1089 q1090 q95 q1091 (by decide +kernel) (by decide) (by decide) dL_law_1397 (As := []) (rest := []) rfl rfl (Nat.le_of_ble_eq_true rfl) hg (m_X1_segments E hc) ?_
  refine g_aload_n C dL_law_1400 rfl 2 rfl ?_
  obtain ⟨hg, hd⟩ := gd_some hd
  obtain ⟨v4, S3, hc, hd⟩ := bn_some hd
  refine g_cV_v (n := 0) C (gk_X3).1 q2356 q2357 q2358 q108 q2359 (by decide +kernel) (by decide) (by decide) dL_law_1401 (As := []) (rest := [vI v2]) rfl rfl (Nat.le_of_ble_eq_true rfl) hg (m_X3_segments E hc) ?_
  refine g_icmp_eq (tgt := 1790) C dL_law_1404 (by decide) hd (fun hd => ?_) (fun hd => ?_)
  · refine g_sub [0, 1, 2, 3, 4] rfl ?_
    exact w_L_law_b1790 C E Q h23 _ _ _ _ _ _ hd
  · refine g_iconst (v := 0) C dL_law_1407 (by decide) ?_
    exact g_lret C Q hd dL_law_1408
theorem w_L_law_b1383 {K : KT} {r : Int32} {S1 : St} (C : GC K RX0 cL_law 7 41 []) (E : EH (kΓ K) (kHI K) (kl K)) (Q : GQL K r S1) {k23 : St → Option Nat → Option Nat → Option Nat → Option Nat → Int32 → Option (Int32 × St)} (h23 : ∀ (S : St) (x0 : Option Nat) (x1 : Option Nat) (x2 : Option Nat) (x3 : Option Nat) (x4 : Int32), k23 S x0 x1 x2 x3 x4 = some (r, S1) → G K 7 S 23 [(0, vR x0), (1, vR x1), (2, vR x2), (3, vR x3), (4, vI x4)] []) : ∀ (S : St) (x0 : Option Nat) (x1 : Option Nat) (x2 : Option Nat) (x3 : Option Nat) (x4 : Int32), n_L_law_b1383 k23 S x0 x1 x2 x3 x4 = some (r, S1) → G K 7 S 1383 [(0, vR x0), (1, vR x1), (2, vR x2), (3, vR x3), (4, vI x4)] [] := by
  intro S x0 x1 x2 x3 x4 hd
  unfold n_L_law_b1383 at hd
  refine g_aload_n C dL_law_1383 rfl 1 rfl ?_
  obtain ⟨hg, hd⟩ := gd_some hd
  obtain ⟨v2, S1, hc, hd⟩ := bn_some hd
  refine g_cV_v (n := 0) C (gk_X1).1 q1076 q1077 q1078 q95 q1079 (by decide +kernel) (by decide) (by decide) dL_law_1384 (As := []) (rest := []) rfl rfl (Nat.le_of_ble_eq_true rfl) hg (m_X1_stale E hc) ?_
  refine g_aload_n C dL_law_1387 rfl 2 rfl ?_
  obtain ⟨hg, hd⟩ := gd_some hd
  obtain ⟨v4, S3, hc, hd⟩ := bn_some hd
  refine g_cV_v (n := 0) C (gk_X3).1 q2352 q2353 q2354 q108 q2355 (by decide +kernel) (by decide) (by decide) dL_law_1388 (As := []) (rest := [vI v2]) rfl rfl (Nat.le_of_ble_eq_true rfl) hg (m_X3_stale E hc) ?_
  refine g_icmp_eq (tgt := 1790) C dL_law_1391 (by decide) hd (fun hd => ?_) (fun hd => ?_)
  · refine g_sub [0, 1, 2, 3, 4] rfl ?_
    exact w_L_law_b1790 C E Q h23 _ _ _ _ _ _ hd
  · refine g_iconst (v := 0) C dL_law_1394 (by decide) ?_
    exact g_lret C Q hd dL_law_1395
theorem w_L_law_b1380 {K : KT} {r : Int32} {S1 : St} (C : GC K RX0 cL_law 7 41 []) (E : EH (kΓ K) (kHI K) (kl K)) (Q : GQL K r S1) {k23 : St → Option Nat → Option Nat → Option Nat → Option Nat → Int32 → Option (Int32 × St)} (h23 : ∀ (S : St) (x0 : Option Nat) (x1 : Option Nat) (x2 : Option Nat) (x3 : Option Nat) (x4 : Int32), k23 S x0 x1 x2 x3 x4 = some (r, S1) → G K 7 S 23 [(0, vR x0), (1, vR x1), (2, vR x2), (3, vR x3), (4, vI x4)] []) : ∀ (S : St) (x0 : Option Nat) (x1 : Option Nat) (x2 : Option Nat) (x3 : Option Nat) (x4 : Int32), n_L_law_b1380 k23 S x0 x1 x2 x3 x4 = some (r, S1) → G K 7 S 1380 [(0, vR x0), (1, vR x1), (2, vR x2), (3, vR x3), (4, vI x4)] [] := by
  intro S x0 x1 x2 x3 x4 hd
  unfold n_L_law_b1380 at hd
  refine g_goto (tgt := 1790) C dL_law_1380 (by decide) ?_
  refine g_sub [0, 1, 2, 3, 4] rfl ?_
  exact w_L_law_b1790 C E Q h23 _ _ _ _ _ _ hd
theorem w_L_law_b1327 {K : KT} {r : Int32} {S1 : St} (C : GC K RX0 cL_law 7 41 []) (E : EH (kΓ K) (kHI K) (kl K)) (Q : GQL K r S1) {k23 : St → Option Nat → Option Nat → Option Nat → Option Nat → Int32 → Option (Int32 × St)} (h23 : ∀ (S : St) (x0 : Option Nat) (x1 : Option Nat) (x2 : Option Nat) (x3 : Option Nat) (x4 : Int32), k23 S x0 x1 x2 x3 x4 = some (r, S1) → G K 7 S 23 [(0, vR x0), (1, vR x1), (2, vR x2), (3, vR x3), (4, vI x4)] []) : ∀ (S : St) (x0 : Option Nat) (x1 : Option Nat) (x2 : Option Nat) (x3 : Option Nat) (x4 : Int32), n_L_law_b1327 k23 S x0 x1 x2 x3 x4 = some (r, S1) → G K 7 S 1327 [(0, vR x0), (1, vR x1), (2, vR x2), (3, vR x3), (4, vI x4)] [] := by
  intro S x0 x1 x2 x3 x4 hd
  unfold n_L_law_b1327 at hd
  refine g_aload_n C dL_law_1327 rfl 1 rfl ?_
  refine g_aload_n C dL_law_1328 rfl 0 rfl ?_
  refine g_iload C dL_law_1329 4 rfl ?_
  refine g_iconst (v := 1) C dL_law_1331 (by decide) ?_
  refine g_iadd C dL_law_1332 ?_
  obtain ⟨v1, hv1, hd⟩ := Option.bind_eq_some_iff.mp hd
  refine g_iald10 C dL_law_1333 hv1 ?_
  refine g_aload_n C dL_law_1334 rfl 3 rfl ?_
  obtain ⟨v3, S2, hc, hd⟩ := bn_some hd
  refine g_cSW_v (n := 3) C q1884 q1885 q94 q1886 (by decide +kernel) (by decide) (by decide) dL_law_1335 (As := [vR x1, vI v1, vR x3]) (rest := []) rfl rfl (Nat.le_of_ble_eq_true rfl) (m_X0_edition E hc) ?_
  refine g_istore (L' := [(5, vI v3), (0, vR x0), (1, vR x1), (2, vR x2), (3, vR x3), (4, vI x4)]) C dL_law_1338 (by decide) rfl ?_
  refine g_aload_n C dL_law_1340 rfl 3 rfl ?_
  refine g_aload_n C dL_law_1341 rfl 1 rfl ?_
  refine g_iload C dL_law_1342 5 rfl ?_
  refine g_iconst (v := 1) C dL_law_1344 (by decide) ?_
  refine g_iadd C dL_law_1345 ?_
  obtain ⟨v4, hv4, hd⟩ := Option.bind_eq_some_iff.mp hd
  refine g_iald10 C dL_law_1346 hv4 ?_
  obtain ⟨hg, hd⟩ := gd_some hd
  obtain ⟨v6, S5, hc, hd⟩ := bn_some hd
  refine g_cV_v (n := 1) C (gk_X3).1 q2348 q2349 q2350 q108 q2351 (by decide +kernel) (by decide) (by decide) dL_law_1347 (As := [vI v4]) (rest := []) rfl rfl (Nat.le_of_ble_eq_true rfl) hg (m_X3_edition E hc) ?_
  refine g_istore (L' := [(6, vI v6), (5, vI v3), (0, vR x0), (1, vR x1), (2, vR x2), (3, vR x3), (4, vI x4)]) C dL_law_1350 (by decide) rfl ?_
  refine g_aload_n C dL_law_1352 rfl 4 rfl ?_
  obtain ⟨hg, hd⟩ := gd_some hd
  obtain ⟨v8, S7, hc, hd⟩ := bn_some hd
  refine g_cV_v (n := 0) C (gk_X3).1 q2108 q2109 q2110 q108 q2111 (by decide +kernel) (by decide) (by decide) dL_law_1353 (As := []) (rest := []) rfl rfl (Nat.le_of_ble_eq_true rfl) hg (m_X3_thrown E hc) ?_
  refine g_iload C dL_law_1356 1 rfl ?_
  refine g_icmp_eq (tgt := 1363) C dL_law_1358 (by decide) hd (fun hd => ?_) (fun hd => ?_)
  · refine g_iload C dL_law_1363 1 rfl ?_
    refine g_if_ne (tgt := 1380) C dL_law_1365 (by decide) hd (fun hd => ?_) (fun hd => ?_)
    · refine g_sub [2, 3, 4, 5, 6] rfl ?_
      exact w_L_law_b1380 C E Q h23 _ _ _ _ _ _ hd
    · refine g_aload_n C dL_law_1368 rfl 5 rfl ?_
      refine g_iconst (v := 0) C dL_law_1369 (by decide) ?_
      obtain ⟨v9, hv9, hd⟩ := Option.bind_eq_some_iff.mp hd
      refine g_lald C dL_law_1370 hv9 ?_
      refine g_iload C dL_law_1371 0 rfl ?_
      refine g_i2l C dL_law_1373 ?_
      refine g_lcmp C dL_law_1374 ?_
      refine g_if_eq (tgt := 1380) C dL_law_1375 (by decide) hd (fun hd => ?_) (fun hd => ?_)
      · refine g_sub [2, 3, 4, 5, 6] rfl ?_
        exact w_L_law_b1380 C E Q h23 _ _ _ _ _ _ hd
      · refine g_iconst (v := 0) C dL_law_1378 (by decide) ?_
        exact g_lret C Q hd dL_law_1379
  · refine g_iconst (v := 0) C dL_law_1361 (by decide) ?_
    exact g_lret C Q hd dL_law_1362
theorem w_L_law_b1314 {K : KT} {r : Int32} {S1 : St} (C : GC K RX0 cL_law 7 41 []) (E : EH (kΓ K) (kHI K) (kl K)) (Q : GQL K r S1) {k23 : St → Option Nat → Option Nat → Option Nat → Option Nat → Int32 → Option (Int32 × St)} (h23 : ∀ (S : St) (x0 : Option Nat) (x1 : Option Nat) (x2 : Option Nat) (x3 : Option Nat) (x4 : Int32), k23 S x0 x1 x2 x3 x4 = some (r, S1) → G K 7 S 23 [(0, vR x0), (1, vR x1), (2, vR x2), (3, vR x3), (4, vI x4)] []) : ∀ (S : St) (x0 : Option Nat) (x1 : Option Nat) (x2 : Option Nat) (x3 : Option Nat) (x4 : Int32), n_L_law_b1314 k23 S x0 x1 x2 x3 x4 = some (r, S1) → G K 7 S 1314 [(0, vR x0), (1, vR x1), (2, vR x2), (3, vR x3), (4, vI x4)] [] := by
  intro S x0 x1 x2 x3 x4 hd
  unfold n_L_law_b1314 at hd
  refine g_aload_n C dL_law_1314 rfl 1 rfl ?_
  obtain ⟨hg, hd⟩ := gd_some hd
  obtain ⟨v2, S1, hc, hd⟩ := bn_some hd
  refine g_cV_v (n := 0) C (gk_X1).1 q1072 q1073 q1074 q95 q1075 (by decide +kernel) (by decide) (by decide) dL_law_1315 (As := []) (rest := []) rfl rfl (Nat.le_of_ble_eq_true rfl) hg (m_X1_entries E hc) ?_
  refine g_aload_n C dL_law_1318 rfl 2 rfl ?_
  obtain ⟨hg, hd⟩ := gd_some hd
  obtain ⟨v4, S3, hc, hd⟩ := bn_some hd
  refine g_cV_v (n := 0) C (gk_X3).1 q2344 q2345 q2346 q108 q2347 (by decide +kernel) (by decide) (by decide) dL_law_1319 (As := []) (rest := [vI v2]) rfl rfl (Nat.le_of_ble_eq_true rfl) hg (m_X3_entries E hc) ?_
  refine g_icmp_eq (tgt := 1790) C dL_law_1322 (by decide) hd (fun hd => ?_) (fun hd => ?_)
  · refine g_sub [0, 1, 2, 3, 4] rfl ?_
    exact w_L_law_b1790 C E Q h23 _ _ _ _ _ _ hd
  · refine g_iconst (v := 0) C dL_law_1325 (by decide) ?_
    exact g_lret C Q hd dL_law_1326
theorem w_L_law_b1301 {K : KT} {r : Int32} {S1 : St} (C : GC K RX0 cL_law 7 41 []) (E : EH (kΓ K) (kHI K) (kl K)) (Q : GQL K r S1) {k23 : St → Option Nat → Option Nat → Option Nat → Option Nat → Int32 → Option (Int32 × St)} (h23 : ∀ (S : St) (x0 : Option Nat) (x1 : Option Nat) (x2 : Option Nat) (x3 : Option Nat) (x4 : Int32), k23 S x0 x1 x2 x3 x4 = some (r, S1) → G K 7 S 23 [(0, vR x0), (1, vR x1), (2, vR x2), (3, vR x3), (4, vI x4)] []) : ∀ (S : St) (x0 : Option Nat) (x1 : Option Nat) (x2 : Option Nat) (x3 : Option Nat) (x4 : Int32), n_L_law_b1301 k23 S x0 x1 x2 x3 x4 = some (r, S1) → G K 7 S 1301 [(0, vR x0), (1, vR x1), (2, vR x2), (3, vR x3), (4, vI x4)] [] := by
  intro S x0 x1 x2 x3 x4 hd
  unfold n_L_law_b1301 at hd
  refine g_aload_n C dL_law_1301 rfl 1 rfl ?_
  obtain ⟨hg, hd⟩ := gd_some hd
  obtain ⟨v2, S1, hc, hd⟩ := bn_some hd
  refine g_cV_v (n := 0) C (gk_X1).1 q803 q804 q805 q95 q806 (by decide +kernel) (by decide) (by decide) dL_law_1302 (As := []) (rest := []) rfl rfl (Nat.le_of_ble_eq_true rfl) hg (m_X1_isQuiet E hc) ?_
  refine g_aload_n C dL_law_1305 rfl 2 rfl ?_
  obtain ⟨hg, hd⟩ := gd_some hd
  obtain ⟨v4, S3, hc, hd⟩ := bn_some hd
  refine g_cV_v (n := 0) C (gk_X3).1 q2340 q2341 q2342 q108 q2343 (by decide +kernel) (by decide) (by decide) dL_law_1306 (As := []) (rest := [vI v2]) rfl rfl (Nat.le_of_ble_eq_true rfl) hg (m_X3_isQuiet E hc) ?_
  refine g_icmp_eq (tgt := 1790) C dL_law_1309 (by decide) hd (fun hd => ?_) (fun hd => ?_)
  · refine g_sub [0, 1, 2, 3, 4] rfl ?_
    exact w_L_law_b1790 C E Q h23 _ _ _ _ _ _ hd
  · refine g_iconst (v := 0) C dL_law_1312 (by decide) ?_
    exact g_lret C Q hd dL_law_1313
theorem w_L_law_b1288 {K : KT} {r : Int32} {S1 : St} (C : GC K RX0 cL_law 7 41 []) (E : EH (kΓ K) (kHI K) (kl K)) (Q : GQL K r S1) {k23 : St → Option Nat → Option Nat → Option Nat → Option Nat → Int32 → Option (Int32 × St)} (h23 : ∀ (S : St) (x0 : Option Nat) (x1 : Option Nat) (x2 : Option Nat) (x3 : Option Nat) (x4 : Int32), k23 S x0 x1 x2 x3 x4 = some (r, S1) → G K 7 S 23 [(0, vR x0), (1, vR x1), (2, vR x2), (3, vR x3), (4, vI x4)] []) : ∀ (S : St) (x0 : Option Nat) (x1 : Option Nat) (x2 : Option Nat) (x3 : Option Nat) (x4 : Int32), n_L_law_b1288 k23 S x0 x1 x2 x3 x4 = some (r, S1) → G K 7 S 1288 [(0, vR x0), (1, vR x1), (2, vR x2), (3, vR x3), (4, vI x4)] [] := by
  intro S x0 x1 x2 x3 x4 hd
  unfold n_L_law_b1288 at hd
  refine g_aload_n C dL_law_1288 rfl 1 rfl ?_
  obtain ⟨hg, hd⟩ := gd_some hd
  obtain ⟨v2, S1, hc, hd⟩ := bn_some hd
  refine g_cV_v (n := 0) C (gk_X1).1 q798 q799 q800 q95 q801 (by decide +kernel) (by decide) (by decide) dL_law_1289 (As := []) (rest := []) rfl rfl (Nat.le_of_ble_eq_true rfl) hg (m_X1_acts E hc) ?_
  refine g_aload_n C dL_law_1292 rfl 2 rfl ?_
  obtain ⟨hg, hd⟩ := gd_some hd
  obtain ⟨v4, S3, hc, hd⟩ := bn_some hd
  refine g_cV_v (n := 0) C (gk_X3).1 q2336 q2337 q2338 q108 q2339 (by decide +kernel) (by decide) (by decide) dL_law_1293 (As := []) (rest := [vI v2]) rfl rfl (Nat.le_of_ble_eq_true rfl) hg (m_X3_acts_2 E hc) ?_
  refine g_icmp_eq (tgt := 1790) C dL_law_1296 (by decide) hd (fun hd => ?_) (fun hd => ?_)
  · refine g_sub [0, 1, 2, 3, 4] rfl ?_
    exact w_L_law_b1790 C E Q h23 _ _ _ _ _ _ hd
  · refine g_iconst (v := 0) C dL_law_1299 (by decide) ?_
    exact g_lret C Q hd dL_law_1300
theorem w_L_law_b1285 {K : KT} {r : Int32} {S1 : St} (C : GC K RX0 cL_law 7 41 []) (E : EH (kΓ K) (kHI K) (kl K)) (Q : GQL K r S1) {k23 : St → Option Nat → Option Nat → Option Nat → Option Nat → Int32 → Option (Int32 × St)} (h23 : ∀ (S : St) (x0 : Option Nat) (x1 : Option Nat) (x2 : Option Nat) (x3 : Option Nat) (x4 : Int32), k23 S x0 x1 x2 x3 x4 = some (r, S1) → G K 7 S 23 [(0, vR x0), (1, vR x1), (2, vR x2), (3, vR x3), (4, vI x4)] []) : ∀ (S : St) (x0 : Option Nat) (x1 : Option Nat) (x2 : Option Nat) (x3 : Option Nat) (x4 : Int32), n_L_law_b1285 k23 S x0 x1 x2 x3 x4 = some (r, S1) → G K 7 S 1285 [(0, vR x0), (1, vR x1), (2, vR x2), (3, vR x3), (4, vI x4)] [] := by
  intro S x0 x1 x2 x3 x4 hd
  unfold n_L_law_b1285 at hd
  refine g_goto (tgt := 1790) C dL_law_1285 (by decide) ?_
  refine g_sub [0, 1, 2, 3, 4] rfl ?_
  exact w_L_law_b1790 C E Q h23 _ _ _ _ _ _ hd
theorem w_L_law_b1232 {K : KT} {r : Int32} {S1 : St} (C : GC K RX0 cL_law 7 41 []) (E : EH (kΓ K) (kHI K) (kl K)) (Q : GQL K r S1) {k23 : St → Option Nat → Option Nat → Option Nat → Option Nat → Int32 → Option (Int32 × St)} (h23 : ∀ (S : St) (x0 : Option Nat) (x1 : Option Nat) (x2 : Option Nat) (x3 : Option Nat) (x4 : Int32), k23 S x0 x1 x2 x3 x4 = some (r, S1) → G K 7 S 23 [(0, vR x0), (1, vR x1), (2, vR x2), (3, vR x3), (4, vI x4)] []) : ∀ (S : St) (x0 : Option Nat) (x1 : Option Nat) (x2 : Option Nat) (x3 : Option Nat) (x4 : Int32), n_L_law_b1232 k23 S x0 x1 x2 x3 x4 = some (r, S1) → G K 7 S 1232 [(0, vR x0), (1, vR x1), (2, vR x2), (3, vR x3), (4, vI x4)] [] := by
  intro S x0 x1 x2 x3 x4 hd
  unfold n_L_law_b1232 at hd
  refine g_aload_n C dL_law_1232 rfl 1 rfl ?_
  refine g_aload_n C dL_law_1233 rfl 0 rfl ?_
  refine g_iload C dL_law_1234 4 rfl ?_
  refine g_iconst (v := 1) C dL_law_1236 (by decide) ?_
  refine g_iadd C dL_law_1237 ?_
  obtain ⟨v1, hv1, hd⟩ := Option.bind_eq_some_iff.mp hd
  refine g_iald10 C dL_law_1238 hv1 ?_
  refine g_aload_n C dL_law_1239 rfl 3 rfl ?_
  obtain ⟨v3, S2, hc, hd⟩ := bn_some hd
  refine g_cSW_v (n := 3) C q1877 q1878 q94 q1879 (by decide +kernel) (by decide) (by decide) dL_law_1240 (As := [vR x1, vI v1, vR x3]) (rest := []) rfl rfl (Nat.le_of_ble_eq_true rfl) (m_X0_crawl E hc) ?_
  refine g_istore (L' := [(5, vI v3), (0, vR x0), (1, vR x1), (2, vR x2), (3, vR x3), (4, vI x4)]) C dL_law_1243 (by decide) rfl ?_
  refine g_aload_n C dL_law_1245 rfl 3 rfl ?_
  refine g_aload_n C dL_law_1246 rfl 1 rfl ?_
  refine g_iload C dL_law_1247 5 rfl ?_
  refine g_iconst (v := 1) C dL_law_1249 (by decide) ?_
  refine g_iadd C dL_law_1250 ?_
  obtain ⟨v4, hv4, hd⟩ := Option.bind_eq_some_iff.mp hd
  refine g_iald10 C dL_law_1251 hv4 ?_
  obtain ⟨hg, hd⟩ := gd_some hd
  obtain ⟨v6, S5, hc, hd⟩ := bn_some hd
  refine g_cV_v (n := 1) C (gk_X3).1 q2332 q2333 q2334 q108 q2335 (by decide +kernel) (by decide) (by decide) dL_law_1252 (As := [vI v4]) (rest := []) rfl rfl (Nat.le_of_ble_eq_true rfl) hg (m_X3_crawl E hc) ?_
  refine g_istore (L' := [(6, vI v6), (5, vI v3), (0, vR x0), (1, vR x1), (2, vR x2), (3, vR x3), (4, vI x4)]) C dL_law_1255 (by decide) rfl ?_
  refine g_aload_n C dL_law_1257 rfl 4 rfl ?_
  obtain ⟨hg, hd⟩ := gd_some hd
  obtain ⟨v8, S7, hc, hd⟩ := bn_some hd
  refine g_cV_v (n := 0) C (gk_X3).1 q2108 q2109 q2110 q108 q2111 (by decide +kernel) (by decide) (by decide) dL_law_1258 (As := []) (rest := []) rfl rfl (Nat.le_of_ble_eq_true rfl) hg (m_X3_thrown E hc) ?_
  refine g_iload C dL_law_1261 1 rfl ?_
  refine g_icmp_eq (tgt := 1268) C dL_law_1263 (by decide) hd (fun hd => ?_) (fun hd => ?_)
  · refine g_iload C dL_law_1268 1 rfl ?_
    refine g_if_ne (tgt := 1285) C dL_law_1270 (by decide) hd (fun hd => ?_) (fun hd => ?_)
    · refine g_sub [2, 3, 4, 5, 6] rfl ?_
      exact w_L_law_b1285 C E Q h23 _ _ _ _ _ _ hd
    · refine g_aload_n C dL_law_1273 rfl 5 rfl ?_
      refine g_iconst (v := 0) C dL_law_1274 (by decide) ?_
      obtain ⟨v9, hv9, hd⟩ := Option.bind_eq_some_iff.mp hd
      refine g_lald C dL_law_1275 hv9 ?_
      refine g_iload C dL_law_1276 0 rfl ?_
      refine g_i2l C dL_law_1278 ?_
      refine g_lcmp C dL_law_1279 ?_
      refine g_if_eq (tgt := 1285) C dL_law_1280 (by decide) hd (fun hd => ?_) (fun hd => ?_)
      · refine g_sub [2, 3, 4, 5, 6] rfl ?_
        exact w_L_law_b1285 C E Q h23 _ _ _ _ _ _ hd
      · refine g_iconst (v := 0) C dL_law_1283 (by decide) ?_
        exact g_lret C Q hd dL_law_1284
  · refine g_iconst (v := 0) C dL_law_1266 (by decide) ?_
    exact g_lret C Q hd dL_law_1267
theorem w_L_law_b1229 {K : KT} {r : Int32} {S1 : St} (C : GC K RX0 cL_law 7 41 []) (E : EH (kΓ K) (kHI K) (kl K)) (Q : GQL K r S1) {k23 : St → Option Nat → Option Nat → Option Nat → Option Nat → Int32 → Option (Int32 × St)} (h23 : ∀ (S : St) (x0 : Option Nat) (x1 : Option Nat) (x2 : Option Nat) (x3 : Option Nat) (x4 : Int32), k23 S x0 x1 x2 x3 x4 = some (r, S1) → G K 7 S 23 [(0, vR x0), (1, vR x1), (2, vR x2), (3, vR x3), (4, vI x4)] []) : ∀ (S : St) (x0 : Option Nat) (x1 : Option Nat) (x2 : Option Nat) (x3 : Option Nat) (x4 : Int32), n_L_law_b1229 k23 S x0 x1 x2 x3 x4 = some (r, S1) → G K 7 S 1229 [(0, vR x0), (1, vR x1), (2, vR x2), (3, vR x3), (4, vI x4)] [] := by
  intro S x0 x1 x2 x3 x4 hd
  unfold n_L_law_b1229 at hd
  refine g_goto (tgt := 1790) C dL_law_1229 (by decide) ?_
  refine g_sub [0, 1, 2, 3, 4] rfl ?_
  exact w_L_law_b1790 C E Q h23 _ _ _ _ _ _ hd
theorem w_L_law_b1176 {K : KT} {r : Int32} {S1 : St} (C : GC K RX0 cL_law 7 41 []) (E : EH (kΓ K) (kHI K) (kl K)) (Q : GQL K r S1) {k23 : St → Option Nat → Option Nat → Option Nat → Option Nat → Int32 → Option (Int32 × St)} (h23 : ∀ (S : St) (x0 : Option Nat) (x1 : Option Nat) (x2 : Option Nat) (x3 : Option Nat) (x4 : Int32), k23 S x0 x1 x2 x3 x4 = some (r, S1) → G K 7 S 23 [(0, vR x0), (1, vR x1), (2, vR x2), (3, vR x3), (4, vI x4)] []) : ∀ (S : St) (x0 : Option Nat) (x1 : Option Nat) (x2 : Option Nat) (x3 : Option Nat) (x4 : Int32), n_L_law_b1176 k23 S x0 x1 x2 x3 x4 = some (r, S1) → G K 7 S 1176 [(0, vR x0), (1, vR x1), (2, vR x2), (3, vR x3), (4, vI x4)] [] := by
  intro S x0 x1 x2 x3 x4 hd
  unfold n_L_law_b1176 at hd
  refine g_aload_n C dL_law_1176 rfl 1 rfl ?_
  refine g_aload_n C dL_law_1177 rfl 0 rfl ?_
  refine g_iload C dL_law_1178 4 rfl ?_
  refine g_iconst (v := 1) C dL_law_1180 (by decide) ?_
  refine g_iadd C dL_law_1181 ?_
  obtain ⟨v1, hv1, hd⟩ := Option.bind_eq_some_iff.mp hd
  refine g_iald10 C dL_law_1182 hv1 ?_
  refine g_aload_n C dL_law_1183 rfl 3 rfl ?_
  obtain ⟨v3, S2, hc, hd⟩ := bn_some hd
  refine g_cSW_v (n := 3) C q1565 q1566 q94 q1567 (by decide +kernel) (by decide) (by decide) dL_law_1184 (As := [vR x1, vI v1, vR x3]) (rest := []) rfl rfl (Nat.le_of_ble_eq_true rfl) (m_X0_work E hc) ?_
  refine g_istore (L' := [(5, vI v3), (0, vR x0), (1, vR x1), (2, vR x2), (3, vR x3), (4, vI x4)]) C dL_law_1187 (by decide) rfl ?_
  refine g_aload_n C dL_law_1189 rfl 3 rfl ?_
  refine g_aload_n C dL_law_1190 rfl 1 rfl ?_
  refine g_iload C dL_law_1191 5 rfl ?_
  refine g_iconst (v := 1) C dL_law_1193 (by decide) ?_
  refine g_iadd C dL_law_1194 ?_
  obtain ⟨v4, hv4, hd⟩ := Option.bind_eq_some_iff.mp hd
  refine g_iald10 C dL_law_1195 hv4 ?_
  obtain ⟨hg, hd⟩ := gd_some hd
  obtain ⟨v6, S5, hc, hd⟩ := bn_some hd
  refine g_cV_v (n := 1) C (gk_X3).1 q2240 q2241 q2242 q108 q2243 (by decide +kernel) (by decide) (by decide) dL_law_1196 (As := [vI v4]) (rest := []) rfl rfl (Nat.le_of_ble_eq_true rfl) hg (m_X3_work E hc) ?_
  refine g_istore (L' := [(6, vI v6), (5, vI v3), (0, vR x0), (1, vR x1), (2, vR x2), (3, vR x3), (4, vI x4)]) C dL_law_1199 (by decide) rfl ?_
  refine g_aload_n C dL_law_1201 rfl 4 rfl ?_
  obtain ⟨hg, hd⟩ := gd_some hd
  obtain ⟨v8, S7, hc, hd⟩ := bn_some hd
  refine g_cV_v (n := 0) C (gk_X3).1 q2108 q2109 q2110 q108 q2111 (by decide +kernel) (by decide) (by decide) dL_law_1202 (As := []) (rest := []) rfl rfl (Nat.le_of_ble_eq_true rfl) hg (m_X3_thrown E hc) ?_
  refine g_iload C dL_law_1205 1 rfl ?_
  refine g_icmp_eq (tgt := 1212) C dL_law_1207 (by decide) hd (fun hd => ?_) (fun hd => ?_)
  · refine g_iload C dL_law_1212 1 rfl ?_
    refine g_if_ne (tgt := 1229) C dL_law_1214 (by decide) hd (fun hd => ?_) (fun hd => ?_)
    · refine g_sub [2, 3, 4, 5, 6] rfl ?_
      exact w_L_law_b1229 C E Q h23 _ _ _ _ _ _ hd
    · refine g_aload_n C dL_law_1217 rfl 5 rfl ?_
      refine g_iconst (v := 0) C dL_law_1218 (by decide) ?_
      obtain ⟨v9, hv9, hd⟩ := Option.bind_eq_some_iff.mp hd
      refine g_lald C dL_law_1219 hv9 ?_
      refine g_iload C dL_law_1220 0 rfl ?_
      refine g_i2l C dL_law_1222 ?_
      refine g_lcmp C dL_law_1223 ?_
      refine g_if_eq (tgt := 1229) C dL_law_1224 (by decide) hd (fun hd => ?_) (fun hd => ?_)
      · refine g_sub [2, 3, 4, 5, 6] rfl ?_
        exact w_L_law_b1229 C E Q h23 _ _ _ _ _ _ hd
      · refine g_iconst (v := 0) C dL_law_1227 (by decide) ?_
        exact g_lret C Q hd dL_law_1228
  · refine g_iconst (v := 0) C dL_law_1210 (by decide) ?_
    exact g_lret C Q hd dL_law_1211
theorem w_L_law_b1173 {K : KT} {r : Int32} {S1 : St} (C : GC K RX0 cL_law 7 41 []) (E : EH (kΓ K) (kHI K) (kl K)) (Q : GQL K r S1) {k23 : St → Option Nat → Option Nat → Option Nat → Option Nat → Int32 → Option (Int32 × St)} (h23 : ∀ (S : St) (x0 : Option Nat) (x1 : Option Nat) (x2 : Option Nat) (x3 : Option Nat) (x4 : Int32), k23 S x0 x1 x2 x3 x4 = some (r, S1) → G K 7 S 23 [(0, vR x0), (1, vR x1), (2, vR x2), (3, vR x3), (4, vI x4)] []) : ∀ (S : St) (x0 : Option Nat) (x1 : Option Nat) (x2 : Option Nat) (x3 : Option Nat) (x4 : Int32), n_L_law_b1173 k23 S x0 x1 x2 x3 x4 = some (r, S1) → G K 7 S 1173 [(0, vR x0), (1, vR x1), (2, vR x2), (3, vR x3), (4, vI x4)] [] := by
  intro S x0 x1 x2 x3 x4 hd
  unfold n_L_law_b1173 at hd
  refine g_goto (tgt := 1790) C dL_law_1173 (by decide) ?_
  refine g_sub [0, 1, 2, 3, 4] rfl ?_
  exact w_L_law_b1790 C E Q h23 _ _ _ _ _ _ hd
theorem w_L_law_b1108 {K : KT} {r : Int32} {S1 : St} (C : GC K RX0 cL_law 7 41 []) (E : EH (kΓ K) (kHI K) (kl K)) (Q : GQL K r S1) {k23 : St → Option Nat → Option Nat → Option Nat → Option Nat → Int32 → Option (Int32 × St)} (h23 : ∀ (S : St) (x0 : Option Nat) (x1 : Option Nat) (x2 : Option Nat) (x3 : Option Nat) (x4 : Int32), k23 S x0 x1 x2 x3 x4 = some (r, S1) → G K 7 S 23 [(0, vR x0), (1, vR x1), (2, vR x2), (3, vR x3), (4, vI x4)] []) : ∀ (S : St) (x0 : Option Nat) (x1 : Option Nat) (x2 : Option Nat) (x3 : Option Nat) (x4 : Int32), n_L_law_b1108 k23 S x0 x1 x2 x3 x4 = some (r, S1) → G K 7 S 1108 [(0, vR x0), (1, vR x1), (2, vR x2), (3, vR x3), (4, vI x4)] [] := by
  intro S x0 x1 x2 x3 x4 hd
  unfold n_L_law_b1108 at hd
  refine g_aload_n C dL_law_1108 rfl 1 rfl ?_
  refine g_aload_n C dL_law_1109 rfl 0 rfl ?_
  refine g_iload C dL_law_1110 4 rfl ?_
  refine g_iconst (v := 1) C dL_law_1112 (by decide) ?_
  refine g_iadd C dL_law_1113 ?_
  obtain ⟨v1, hv1, hd⟩ := Option.bind_eq_some_iff.mp hd
  refine g_iald10 C dL_law_1114 hv1 ?_
  refine g_aload_n C dL_law_1115 rfl 0 rfl ?_
  refine g_iload C dL_law_1116 4 rfl ?_
  refine g_iconst (v := 2) C dL_law_1118 (by decide) ?_
  refine g_iadd C dL_law_1119 ?_
  obtain ⟨v2, hv2, hd⟩ := Option.bind_eq_some_iff.mp hd
  refine g_iald10 C dL_law_1120 hv2 ?_
  refine g_aload_n C dL_law_1121 rfl 3 rfl ?_
  obtain ⟨v4, S3, hc, hd⟩ := bn_some hd
  refine g_cSW_v (n := 4) C q1558 q1559 q94 q1560 (by decide +kernel) (by decide) (by decide) dL_law_1122 (As := [vR x1, vI v1, vI v2, vR x3]) (rest := []) rfl rfl (Nat.le_of_ble_eq_true rfl) (m_X0_limits E hc) ?_
  refine g_istore (L' := [(5, vI v4), (0, vR x0), (1, vR x1), (2, vR x2), (3, vR x3), (4, vI x4)]) C dL_law_1125 (by decide) rfl ?_
  refine g_aload_n C dL_law_1127 rfl 3 rfl ?_
  refine g_aload_n C dL_law_1128 rfl 1 rfl ?_
  refine g_iload C dL_law_1129 5 rfl ?_
  refine g_iconst (v := 1) C dL_law_1131 (by decide) ?_
  refine g_iadd C dL_law_1132 ?_
  obtain ⟨v5, hv5, hd⟩ := Option.bind_eq_some_iff.mp hd
  refine g_iald10 C dL_law_1133 hv5 ?_
  refine g_aload_n C dL_law_1134 rfl 1 rfl ?_
  refine g_iload C dL_law_1135 5 rfl ?_
  refine g_iconst (v := 2) C dL_law_1137 (by decide) ?_
  refine g_iadd C dL_law_1138 ?_
  obtain ⟨v6, hv6, hd⟩ := Option.bind_eq_some_iff.mp hd
  refine g_iald10 C dL_law_1139 hv6 ?_
  obtain ⟨hg, hd⟩ := gd_some hd
  obtain ⟨v8, S7, hc, hd⟩ := bn_some hd
  refine g_cV_v (n := 2) C (gk_X3).1 q2236 q2237 q2238 q108 q2239 (by decide +kernel) (by decide) (by decide) dL_law_1140 (As := [vI v5, vI v6]) (rest := []) rfl rfl (Nat.le_of_ble_eq_true rfl) hg (m_X3_limits E hc) ?_
  refine g_istore (L' := [(6, vI v8), (5, vI v4), (0, vR x0), (1, vR x1), (2, vR x2), (3, vR x3), (4, vI x4)]) C dL_law_1143 (by decide) rfl ?_
  refine g_aload_n C dL_law_1145 rfl 4 rfl ?_
  obtain ⟨hg, hd⟩ := gd_some hd
  obtain ⟨v10, S9, hc, hd⟩ := bn_some hd
  refine g_cV_v (n := 0) C (gk_X3).1 q2108 q2109 q2110 q108 q2111 (by decide +kernel) (by decide) (by decide) dL_law_1146 (As := []) (rest := []) rfl rfl (Nat.le_of_ble_eq_true rfl) hg (m_X3_thrown E hc) ?_
  refine g_iload C dL_law_1149 1 rfl ?_
  refine g_icmp_eq (tgt := 1156) C dL_law_1151 (by decide) hd (fun hd => ?_) (fun hd => ?_)
  · refine g_iload C dL_law_1156 1 rfl ?_
    refine g_if_ne (tgt := 1173) C dL_law_1158 (by decide) hd (fun hd => ?_) (fun hd => ?_)
    · refine g_sub [2, 3, 4, 5, 6] rfl ?_
      exact w_L_law_b1173 C E Q h23 _ _ _ _ _ _ hd
    · refine g_aload_n C dL_law_1161 rfl 5 rfl ?_
      refine g_iconst (v := 0) C dL_law_1162 (by decide) ?_
      obtain ⟨v11, hv11, hd⟩ := Option.bind_eq_some_iff.mp hd
      refine g_lald C dL_law_1163 hv11 ?_
      refine g_iload C dL_law_1164 0 rfl ?_
      refine g_i2l C dL_law_1166 ?_
      refine g_lcmp C dL_law_1167 ?_
      refine g_if_eq (tgt := 1173) C dL_law_1168 (by decide) hd (fun hd => ?_) (fun hd => ?_)
      · refine g_sub [2, 3, 4, 5, 6] rfl ?_
        exact w_L_law_b1173 C E Q h23 _ _ _ _ _ _ hd
      · refine g_iconst (v := 0) C dL_law_1171 (by decide) ?_
        exact g_lret C Q hd dL_law_1172
  · refine g_iconst (v := 0) C dL_law_1154 (by decide) ?_
    exact g_lret C Q hd dL_law_1155
theorem w_L_law_b1100 {K : KT} {r : Int32} {S1 : St} (C : GC K RX0 cL_law 7 41 []) (E : EH (kΓ K) (kHI K) (kl K)) (Q : GQL K r S1) {k23 : St → Option Nat → Option Nat → Option Nat → Option Nat → Int32 → Option (Int32 × St)} (h23 : ∀ (S : St) (x0 : Option Nat) (x1 : Option Nat) (x2 : Option Nat) (x3 : Option Nat) (x4 : Int32), k23 S x0 x1 x2 x3 x4 = some (r, S1) → G K 7 S 23 [(0, vR x0), (1, vR x1), (2, vR x2), (3, vR x3), (4, vI x4)] []) : ∀ (S : St) (x0 : Option Nat) (x1 : Option Nat) (x2 : Option Nat) (x3 : Option Nat) (x4 : Int32) (y0 : Int32) (y1 : Option Nat) (y2 : Int32), n_L_law_b1100 k23 S x0 x1 x2 x3 x4 y0 y1 y2 = some (r, S1) → G K 7 S 1100 [(0, vR x0), (1, vR x1), (2, vR x2), (3, vR x3), (4, vI x4)] [vI y0, vR y1, vI y2] := by
  intro S x0 x1 x2 x3 x4 y0 y1 y2 hd
  unfold n_L_law_b1100 at hd
  obtain ⟨hg, hd⟩ := gd_some hd
  obtain ⟨v2, S1, hc, hd⟩ := bn_some hd
  refine g_cV_v (n := 1) C (gk_X3).1 q2232 q2233 q2234 q108 q2235 (by decide +kernel) (by decide) (by decide) dL_law_1100 (As := [vI y0]) (rest := [vI y2]) rfl rfl (Nat.le_of_ble_eq_true rfl) hg (m_X3_battery E hc) ?_
  refine g_icmp_eq (tgt := 1790) C dL_law_1103 (by decide) hd (fun hd => ?_) (fun hd => ?_)
  · refine g_sub [0, 1, 2, 3, 4] rfl ?_
    exact w_L_law_b1790 C E Q h23 _ _ _ _ _ _ hd
  · refine g_iconst (v := 0) C dL_law_1106 (by decide) ?_
    exact g_lret C Q hd dL_law_1107
theorem w_L_law_b1082 {K : KT} {r : Int32} {S1 : St} (C : GC K RX0 cL_law 7 41 []) (E : EH (kΓ K) (kHI K) (kl K)) (Q : GQL K r S1) {k23 : St → Option Nat → Option Nat → Option Nat → Option Nat → Int32 → Option (Int32 × St)} (h23 : ∀ (S : St) (x0 : Option Nat) (x1 : Option Nat) (x2 : Option Nat) (x3 : Option Nat) (x4 : Int32), k23 S x0 x1 x2 x3 x4 = some (r, S1) → G K 7 S 23 [(0, vR x0), (1, vR x1), (2, vR x2), (3, vR x3), (4, vI x4)] []) : ∀ (S : St) (x0 : Option Nat) (x1 : Option Nat) (x2 : Option Nat) (x3 : Option Nat) (x4 : Int32) (y0 : Int32) (y1 : Option Nat), n_L_law_b1082 k23 S x0 x1 x2 x3 x4 y0 y1 = some (r, S1) → G K 7 S 1082 [(0, vR x0), (1, vR x1), (2, vR x2), (3, vR x3), (4, vI x4)] [vI y0, vR y1] := by
  intro S x0 x1 x2 x3 x4 y0 y1 hd
  unfold n_L_law_b1082 at hd
  obtain ⟨hg, hd⟩ := gd_some hd
  obtain ⟨v2, S1, hc, hd⟩ := bn_some hd
  refine g_cV_v (n := 1) C (gk_X1).1 q794 q795 q796 q95 q797 (by decide +kernel) (by decide) (by decide) dL_law_1082 (As := [vI y0]) (rest := []) rfl rfl (Nat.le_of_ble_eq_true rfl) hg (m_X1_battery E hc) ?_
  refine g_aload_n C dL_law_1085 rfl 2 rfl ?_
  refine g_aload_n C dL_law_1086 rfl 0 rfl ?_
  refine g_iload C dL_law_1087 4 rfl ?_
  refine g_iconst (v := 1) C dL_law_1089 (by decide) ?_
  refine g_iadd C dL_law_1090 ?_
  obtain ⟨v3, hv3, hd⟩ := Option.bind_eq_some_iff.mp hd
  refine g_iald10 C dL_law_1091 hv3 ?_
  refine g_if_eq (tgt := 1099) C dL_law_1092 (by decide) hd (fun hd => ?_) (fun hd => ?_)
  · refine g_iconst (v := 0) C dL_law_1099 (by decide) ?_
    refine g_sub [0, 1, 2, 3, 4] rfl ?_
    exact w_L_law_b1100 C E Q h23 _ _ _ _ _ _ _ _ _ hd
  · refine g_iconst (v := 1) C dL_law_1095 (by decide) ?_
    refine g_goto (tgt := 1100) C dL_law_1096 (by decide) ?_
    refine g_sub [0, 1, 2, 3, 4] rfl ?_
    exact w_L_law_b1100 C E Q h23 _ _ _ _ _ _ _ _ _ hd
theorem w_L_law_b1067 {K : KT} {r : Int32} {S1 : St} (C : GC K RX0 cL_law 7 41 []) (E : EH (kΓ K) (kHI K) (kl K)) (Q : GQL K r S1) {k23 : St → Option Nat → Option Nat → Option Nat → Option Nat → Int32 → Option (Int32 × St)} (h23 : ∀ (S : St) (x0 : Option Nat) (x1 : Option Nat) (x2 : Option Nat) (x3 : Option Nat) (x4 : Int32), k23 S x0 x1 x2 x3 x4 = some (r, S1) → G K 7 S 23 [(0, vR x0), (1, vR x1), (2, vR x2), (3, vR x3), (4, vI x4)] []) : ∀ (S : St) (x0 : Option Nat) (x1 : Option Nat) (x2 : Option Nat) (x3 : Option Nat) (x4 : Int32), n_L_law_b1067 k23 S x0 x1 x2 x3 x4 = some (r, S1) → G K 7 S 1067 [(0, vR x0), (1, vR x1), (2, vR x2), (3, vR x3), (4, vI x4)] [] := by
  intro S x0 x1 x2 x3 x4 hd
  unfold n_L_law_b1067 at hd
  refine g_aload_n C dL_law_1067 rfl 1 rfl ?_
  refine g_aload_n C dL_law_1068 rfl 0 rfl ?_
  refine g_iload C dL_law_1069 4 rfl ?_
  refine g_iconst (v := 1) C dL_law_1071 (by decide) ?_
  refine g_iadd C dL_law_1072 ?_
  obtain ⟨v1, hv1, hd⟩ := Option.bind_eq_some_iff.mp hd
  refine g_iald10 C dL_law_1073 hv1 ?_
  refine g_if_eq (tgt := 1081) C dL_law_1074 (by decide) hd (fun hd => ?_) (fun hd => ?_)
  · refine g_iconst (v := 0) C dL_law_1081 (by decide) ?_
    refine g_sub [0, 1, 2, 3, 4] rfl ?_
    exact w_L_law_b1082 C E Q h23 _ _ _ _ _ _ _ _ hd
  · refine g_iconst (v := 1) C dL_law_1077 (by decide) ?_
    refine g_goto (tgt := 1082) C dL_law_1078 (by decide) ?_
    refine g_sub [0, 1, 2, 3, 4] rfl ?_
    exact w_L_law_b1082 C E Q h23 _ _ _ _ _ _ _ _ hd
theorem w_L_law_b1064 {K : KT} {r : Int32} {S1 : St} (C : GC K RX0 cL_law 7 41 []) (E : EH (kΓ K) (kHI K) (kl K)) (Q : GQL K r S1) {k23 : St → Option Nat → Option Nat → Option Nat → Option Nat → Int32 → Option (Int32 × St)} (h23 : ∀ (S : St) (x0 : Option Nat) (x1 : Option Nat) (x2 : Option Nat) (x3 : Option Nat) (x4 : Int32), k23 S x0 x1 x2 x3 x4 = some (r, S1) → G K 7 S 23 [(0, vR x0), (1, vR x1), (2, vR x2), (3, vR x3), (4, vI x4)] []) : ∀ (S : St) (x0 : Option Nat) (x1 : Option Nat) (x2 : Option Nat) (x3 : Option Nat) (x4 : Int32), n_L_law_b1064 k23 S x0 x1 x2 x3 x4 = some (r, S1) → G K 7 S 1064 [(0, vR x0), (1, vR x1), (2, vR x2), (3, vR x3), (4, vI x4)] [] := by
  intro S x0 x1 x2 x3 x4 hd
  unfold n_L_law_b1064 at hd
  refine g_goto (tgt := 1790) C dL_law_1064 (by decide) ?_
  refine g_sub [0, 1, 2, 3, 4] rfl ?_
  exact w_L_law_b1790 C E Q h23 _ _ _ _ _ _ hd
theorem w_L_law_b1011 {K : KT} {r : Int32} {S1 : St} (C : GC K RX0 cL_law 7 41 []) (E : EH (kΓ K) (kHI K) (kl K)) (Q : GQL K r S1) {k23 : St → Option Nat → Option Nat → Option Nat → Option Nat → Int32 → Option (Int32 × St)} (h23 : ∀ (S : St) (x0 : Option Nat) (x1 : Option Nat) (x2 : Option Nat) (x3 : Option Nat) (x4 : Int32), k23 S x0 x1 x2 x3 x4 = some (r, S1) → G K 7 S 23 [(0, vR x0), (1, vR x1), (2, vR x2), (3, vR x3), (4, vI x4)] []) : ∀ (S : St) (x0 : Option Nat) (x1 : Option Nat) (x2 : Option Nat) (x3 : Option Nat) (x4 : Int32), n_L_law_b1011 k23 S x0 x1 x2 x3 x4 = some (r, S1) → G K 7 S 1011 [(0, vR x0), (1, vR x1), (2, vR x2), (3, vR x3), (4, vI x4)] [] := by
  intro S x0 x1 x2 x3 x4 hd
  unfold n_L_law_b1011 at hd
  refine g_aload_n C dL_law_1011 rfl 1 rfl ?_
  refine g_aload_n C dL_law_1012 rfl 0 rfl ?_
  refine g_iload C dL_law_1013 4 rfl ?_
  refine g_iconst (v := 1) C dL_law_1015 (by decide) ?_
  refine g_iadd C dL_law_1016 ?_
  obtain ⟨v1, hv1, hd⟩ := Option.bind_eq_some_iff.mp hd
  refine g_iald10 C dL_law_1017 hv1 ?_
  refine g_aload_n C dL_law_1018 rfl 3 rfl ?_
  obtain ⟨v3, S2, hc, hd⟩ := bn_some hd
  refine g_cSW_v (n := 3) C q1550 q1551 q94 q1552 (by decide +kernel) (by decide) (by decide) dL_law_1019 (As := [vR x1, vI v1, vR x3]) (rest := []) rfl rfl (Nat.le_of_ble_eq_true rfl) (m_X0_pass E hc) ?_
  refine g_istore (L' := [(5, vI v3), (0, vR x0), (1, vR x1), (2, vR x2), (3, vR x3), (4, vI x4)]) C dL_law_1022 (by decide) rfl ?_
  refine g_aload_n C dL_law_1024 rfl 3 rfl ?_
  refine g_aload_n C dL_law_1025 rfl 1 rfl ?_
  refine g_iload C dL_law_1026 5 rfl ?_
  refine g_iconst (v := 1) C dL_law_1028 (by decide) ?_
  refine g_iadd C dL_law_1029 ?_
  obtain ⟨v4, hv4, hd⟩ := Option.bind_eq_some_iff.mp hd
  refine g_iald10 C dL_law_1030 hv4 ?_
  obtain ⟨hg, hd⟩ := gd_some hd
  obtain ⟨v6, S5, hc, hd⟩ := bn_some hd
  refine g_cV_v (n := 1) C (gk_X3).1 q2227 q2228 q2229 q108 q2230 (by decide +kernel) (by decide) (by decide) dL_law_1031 (As := [vI v4]) (rest := []) rfl rfl (Nat.le_of_ble_eq_true rfl) hg (m_X3_pass E hc) ?_
  refine g_istore (L' := [(6, vI v6), (5, vI v3), (0, vR x0), (1, vR x1), (2, vR x2), (3, vR x3), (4, vI x4)]) C dL_law_1034 (by decide) rfl ?_
  refine g_aload_n C dL_law_1036 rfl 4 rfl ?_
  obtain ⟨hg, hd⟩ := gd_some hd
  obtain ⟨v8, S7, hc, hd⟩ := bn_some hd
  refine g_cV_v (n := 0) C (gk_X3).1 q2108 q2109 q2110 q108 q2111 (by decide +kernel) (by decide) (by decide) dL_law_1037 (As := []) (rest := []) rfl rfl (Nat.le_of_ble_eq_true rfl) hg (m_X3_thrown E hc) ?_
  refine g_iload C dL_law_1040 1 rfl ?_
  refine g_icmp_eq (tgt := 1047) C dL_law_1042 (by decide) hd (fun hd => ?_) (fun hd => ?_)
  · refine g_iload C dL_law_1047 1 rfl ?_
    refine g_if_ne (tgt := 1064) C dL_law_1049 (by decide) hd (fun hd => ?_) (fun hd => ?_)
    · refine g_sub [2, 3, 4, 5, 6] rfl ?_
      exact w_L_law_b1064 C E Q h23 _ _ _ _ _ _ hd
    · refine g_aload_n C dL_law_1052 rfl 5 rfl ?_
      refine g_iconst (v := 0) C dL_law_1053 (by decide) ?_
      obtain ⟨v9, hv9, hd⟩ := Option.bind_eq_some_iff.mp hd
      refine g_lald C dL_law_1054 hv9 ?_
      refine g_iload C dL_law_1055 0 rfl ?_
      refine g_i2l C dL_law_1057 ?_
      refine g_lcmp C dL_law_1058 ?_
      refine g_if_eq (tgt := 1064) C dL_law_1059 (by decide) hd (fun hd => ?_) (fun hd => ?_)
      · refine g_sub [2, 3, 4, 5, 6] rfl ?_
        exact w_L_law_b1064 C E Q h23 _ _ _ _ _ _ hd
      · refine g_iconst (v := 0) C dL_law_1062 (by decide) ?_
        exact g_lret C Q hd dL_law_1063
  · refine g_iconst (v := 0) C dL_law_1045 (by decide) ?_
    exact g_lret C Q hd dL_law_1046
theorem w_L_law_b1008 {K : KT} {r : Int32} {S1 : St} (C : GC K RX0 cL_law 7 41 []) (E : EH (kΓ K) (kHI K) (kl K)) (Q : GQL K r S1) {k23 : St → Option Nat → Option Nat → Option Nat → Option Nat → Int32 → Option (Int32 × St)} (h23 : ∀ (S : St) (x0 : Option Nat) (x1 : Option Nat) (x2 : Option Nat) (x3 : Option Nat) (x4 : Int32), k23 S x0 x1 x2 x3 x4 = some (r, S1) → G K 7 S 23 [(0, vR x0), (1, vR x1), (2, vR x2), (3, vR x3), (4, vI x4)] []) : ∀ (S : St) (x0 : Option Nat) (x1 : Option Nat) (x2 : Option Nat) (x3 : Option Nat) (x4 : Int32), n_L_law_b1008 k23 S x0 x1 x2 x3 x4 = some (r, S1) → G K 7 S 1008 [(0, vR x0), (1, vR x1), (2, vR x2), (3, vR x3), (4, vI x4)] [] := by
  intro S x0 x1 x2 x3 x4 hd
  unfold n_L_law_b1008 at hd
  refine g_goto (tgt := 1790) C dL_law_1008 (by decide) ?_
  refine g_sub [0, 1, 2, 3, 4] rfl ?_
  exact w_L_law_b1790 C E Q h23 _ _ _ _ _ _ hd
theorem w_L_law_b943 {K : KT} {r : Int32} {S1 : St} (C : GC K RX0 cL_law 7 41 []) (E : EH (kΓ K) (kHI K) (kl K)) (Q : GQL K r S1) {k23 : St → Option Nat → Option Nat → Option Nat → Option Nat → Int32 → Option (Int32 × St)} (h23 : ∀ (S : St) (x0 : Option Nat) (x1 : Option Nat) (x2 : Option Nat) (x3 : Option Nat) (x4 : Int32), k23 S x0 x1 x2 x3 x4 = some (r, S1) → G K 7 S 23 [(0, vR x0), (1, vR x1), (2, vR x2), (3, vR x3), (4, vI x4)] []) : ∀ (S : St) (x0 : Option Nat) (x1 : Option Nat) (x2 : Option Nat) (x3 : Option Nat) (x4 : Int32), n_L_law_b943 k23 S x0 x1 x2 x3 x4 = some (r, S1) → G K 7 S 943 [(0, vR x0), (1, vR x1), (2, vR x2), (3, vR x3), (4, vI x4)] [] := by
  intro S x0 x1 x2 x3 x4 hd
  unfold n_L_law_b943 at hd
  refine g_aload_n C dL_law_943 rfl 1 rfl ?_
  refine g_aload_n C dL_law_944 rfl 0 rfl ?_
  refine g_iload C dL_law_945 4 rfl ?_
  refine g_iconst (v := 1) C dL_law_947 (by decide) ?_
  refine g_iadd C dL_law_948 ?_
  obtain ⟨v1, hv1, hd⟩ := Option.bind_eq_some_iff.mp hd
  refine g_iald10 C dL_law_949 hv1 ?_
  refine g_aload_n C dL_law_950 rfl 0 rfl ?_
  refine g_iload C dL_law_951 4 rfl ?_
  refine g_iconst (v := 2) C dL_law_953 (by decide) ?_
  refine g_iadd C dL_law_954 ?_
  obtain ⟨v2, hv2, hd⟩ := Option.bind_eq_some_iff.mp hd
  refine g_iald10 C dL_law_955 hv2 ?_
  refine g_aload_n C dL_law_956 rfl 3 rfl ?_
  obtain ⟨v4, S3, hc, hd⟩ := bn_some hd
  refine g_cSW_v (n := 4) C q1535 q1536 q94 q1537 (by decide +kernel) (by decide) (by decide) dL_law_957 (As := [vR x1, vI v1, vI v2, vR x3]) (rest := []) rfl rfl (Nat.le_of_ble_eq_true rfl) (m_X0_lose E hc) ?_
  refine g_istore (L' := [(5, vI v4), (0, vR x0), (1, vR x1), (2, vR x2), (3, vR x3), (4, vI x4)]) C dL_law_960 (by decide) rfl ?_
  refine g_aload_n C dL_law_962 rfl 3 rfl ?_
  refine g_aload_n C dL_law_963 rfl 1 rfl ?_
  refine g_iload C dL_law_964 5 rfl ?_
  refine g_iconst (v := 1) C dL_law_966 (by decide) ?_
  refine g_iadd C dL_law_967 ?_
  obtain ⟨v5, hv5, hd⟩ := Option.bind_eq_some_iff.mp hd
  refine g_iald10 C dL_law_968 hv5 ?_
  refine g_aload_n C dL_law_969 rfl 1 rfl ?_
  refine g_iload C dL_law_970 5 rfl ?_
  refine g_iconst (v := 2) C dL_law_972 (by decide) ?_
  refine g_iadd C dL_law_973 ?_
  obtain ⟨v6, hv6, hd⟩ := Option.bind_eq_some_iff.mp hd
  refine g_iald10 C dL_law_974 hv6 ?_
  obtain ⟨hg, hd⟩ := gd_some hd
  obtain ⟨v8, S7, hc, hd⟩ := bn_some hd
  refine g_cV_v (n := 2) C (gk_X3).1 q2223 q2224 q2225 q108 q2226 (by decide +kernel) (by decide) (by decide) dL_law_975 (As := [vI v5, vI v6]) (rest := []) rfl rfl (Nat.le_of_ble_eq_true rfl) hg (m_X3_lose E hc) ?_
  refine g_istore (L' := [(6, vI v8), (5, vI v4), (0, vR x0), (1, vR x1), (2, vR x2), (3, vR x3), (4, vI x4)]) C dL_law_978 (by decide) rfl ?_
  refine g_aload_n C dL_law_980 rfl 4 rfl ?_
  obtain ⟨hg, hd⟩ := gd_some hd
  obtain ⟨v10, S9, hc, hd⟩ := bn_some hd
  refine g_cV_v (n := 0) C (gk_X3).1 q2108 q2109 q2110 q108 q2111 (by decide +kernel) (by decide) (by decide) dL_law_981 (As := []) (rest := []) rfl rfl (Nat.le_of_ble_eq_true rfl) hg (m_X3_thrown E hc) ?_
  refine g_iload C dL_law_984 1 rfl ?_
  refine g_icmp_eq (tgt := 991) C dL_law_986 (by decide) hd (fun hd => ?_) (fun hd => ?_)
  · refine g_iload C dL_law_991 1 rfl ?_
    refine g_if_ne (tgt := 1008) C dL_law_993 (by decide) hd (fun hd => ?_) (fun hd => ?_)
    · refine g_sub [2, 3, 4, 5, 6] rfl ?_
      exact w_L_law_b1008 C E Q h23 _ _ _ _ _ _ hd
    · refine g_aload_n C dL_law_996 rfl 5 rfl ?_
      refine g_iconst (v := 0) C dL_law_997 (by decide) ?_
      obtain ⟨v11, hv11, hd⟩ := Option.bind_eq_some_iff.mp hd
      refine g_lald C dL_law_998 hv11 ?_
      refine g_iload C dL_law_999 0 rfl ?_
      refine g_i2l C dL_law_1001 ?_
      refine g_lcmp C dL_law_1002 ?_
      refine g_if_eq (tgt := 1008) C dL_law_1003 (by decide) hd (fun hd => ?_) (fun hd => ?_)
      · refine g_sub [2, 3, 4, 5, 6] rfl ?_
        exact w_L_law_b1008 C E Q h23 _ _ _ _ _ _ hd
      · refine g_iconst (v := 0) C dL_law_1006 (by decide) ?_
        exact g_lret C Q hd dL_law_1007
  · refine g_iconst (v := 0) C dL_law_989 (by decide) ?_
    exact g_lret C Q hd dL_law_990
theorem w_L_law_b940 {K : KT} {r : Int32} {S1 : St} (C : GC K RX0 cL_law 7 41 []) (E : EH (kΓ K) (kHI K) (kl K)) (Q : GQL K r S1) {k23 : St → Option Nat → Option Nat → Option Nat → Option Nat → Int32 → Option (Int32 × St)} (h23 : ∀ (S : St) (x0 : Option Nat) (x1 : Option Nat) (x2 : Option Nat) (x3 : Option Nat) (x4 : Int32), k23 S x0 x1 x2 x3 x4 = some (r, S1) → G K 7 S 23 [(0, vR x0), (1, vR x1), (2, vR x2), (3, vR x3), (4, vI x4)] []) : ∀ (S : St) (x0 : Option Nat) (x1 : Option Nat) (x2 : Option Nat) (x3 : Option Nat) (x4 : Int32), n_L_law_b940 k23 S x0 x1 x2 x3 x4 = some (r, S1) → G K 7 S 940 [(0, vR x0), (1, vR x1), (2, vR x2), (3, vR x3), (4, vI x4)] [] := by
  intro S x0 x1 x2 x3 x4 hd
  unfold n_L_law_b940 at hd
  refine g_goto (tgt := 1790) C dL_law_940 (by decide) ?_
  refine g_sub [0, 1, 2, 3, 4] rfl ?_
  exact w_L_law_b1790 C E Q h23 _ _ _ _ _ _ hd
theorem w_L_law_b887 {K : KT} {r : Int32} {S1 : St} (C : GC K RX0 cL_law 7 41 []) (E : EH (kΓ K) (kHI K) (kl K)) (Q : GQL K r S1) {k23 : St → Option Nat → Option Nat → Option Nat → Option Nat → Int32 → Option (Int32 × St)} (h23 : ∀ (S : St) (x0 : Option Nat) (x1 : Option Nat) (x2 : Option Nat) (x3 : Option Nat) (x4 : Int32), k23 S x0 x1 x2 x3 x4 = some (r, S1) → G K 7 S 23 [(0, vR x0), (1, vR x1), (2, vR x2), (3, vR x3), (4, vI x4)] []) : ∀ (S : St) (x0 : Option Nat) (x1 : Option Nat) (x2 : Option Nat) (x3 : Option Nat) (x4 : Int32), n_L_law_b887 k23 S x0 x1 x2 x3 x4 = some (r, S1) → G K 7 S 887 [(0, vR x0), (1, vR x1), (2, vR x2), (3, vR x3), (4, vI x4)] [] := by
  intro S x0 x1 x2 x3 x4 hd
  unfold n_L_law_b887 at hd
  refine g_aload_n C dL_law_887 rfl 1 rfl ?_
  refine g_aload_n C dL_law_888 rfl 0 rfl ?_
  refine g_iload C dL_law_889 4 rfl ?_
  refine g_iconst (v := 1) C dL_law_891 (by decide) ?_
  refine g_iadd C dL_law_892 ?_
  obtain ⟨v1, hv1, hd⟩ := Option.bind_eq_some_iff.mp hd
  refine g_iald10 C dL_law_893 hv1 ?_
  refine g_aload_n C dL_law_894 rfl 3 rfl ?_
  obtain ⟨v3, S2, hc, hd⟩ := bn_some hd
  refine g_cSW_v (n := 3) C q1522 q1523 q94 q1524 (by decide +kernel) (by decide) (by decide) dL_law_895 (As := [vR x1, vI v1, vR x3]) (rest := []) rfl rfl (Nat.le_of_ble_eq_true rfl) (m_X0_twice E hc) ?_
  refine g_istore (L' := [(5, vI v3), (0, vR x0), (1, vR x1), (2, vR x2), (3, vR x3), (4, vI x4)]) C dL_law_898 (by decide) rfl ?_
  refine g_aload_n C dL_law_900 rfl 3 rfl ?_
  refine g_aload_n C dL_law_901 rfl 1 rfl ?_
  refine g_iload C dL_law_902 5 rfl ?_
  refine g_iconst (v := 1) C dL_law_904 (by decide) ?_
  refine g_iadd C dL_law_905 ?_
  obtain ⟨v4, hv4, hd⟩ := Option.bind_eq_some_iff.mp hd
  refine g_iald10 C dL_law_906 hv4 ?_
  obtain ⟨hg, hd⟩ := gd_some hd
  obtain ⟨v6, S5, hc, hd⟩ := bn_some hd
  refine g_cV_v (n := 1) C (gk_X3).1 q2219 q2220 q2221 q108 q2222 (by decide +kernel) (by decide) (by decide) dL_law_907 (As := [vI v4]) (rest := []) rfl rfl (Nat.le_of_ble_eq_true rfl) hg (m_X3_twice E hc) ?_
  refine g_istore (L' := [(6, vI v6), (5, vI v3), (0, vR x0), (1, vR x1), (2, vR x2), (3, vR x3), (4, vI x4)]) C dL_law_910 (by decide) rfl ?_
  refine g_aload_n C dL_law_912 rfl 4 rfl ?_
  obtain ⟨hg, hd⟩ := gd_some hd
  obtain ⟨v8, S7, hc, hd⟩ := bn_some hd
  refine g_cV_v (n := 0) C (gk_X3).1 q2108 q2109 q2110 q108 q2111 (by decide +kernel) (by decide) (by decide) dL_law_913 (As := []) (rest := []) rfl rfl (Nat.le_of_ble_eq_true rfl) hg (m_X3_thrown E hc) ?_
  refine g_iload C dL_law_916 1 rfl ?_
  refine g_icmp_eq (tgt := 923) C dL_law_918 (by decide) hd (fun hd => ?_) (fun hd => ?_)
  · refine g_iload C dL_law_923 1 rfl ?_
    refine g_if_ne (tgt := 940) C dL_law_925 (by decide) hd (fun hd => ?_) (fun hd => ?_)
    · refine g_sub [2, 3, 4, 5, 6] rfl ?_
      exact w_L_law_b940 C E Q h23 _ _ _ _ _ _ hd
    · refine g_aload_n C dL_law_928 rfl 5 rfl ?_
      refine g_iconst (v := 0) C dL_law_929 (by decide) ?_
      obtain ⟨v9, hv9, hd⟩ := Option.bind_eq_some_iff.mp hd
      refine g_lald C dL_law_930 hv9 ?_
      refine g_iload C dL_law_931 0 rfl ?_
      refine g_i2l C dL_law_933 ?_
      refine g_lcmp C dL_law_934 ?_
      refine g_if_eq (tgt := 940) C dL_law_935 (by decide) hd (fun hd => ?_) (fun hd => ?_)
      · refine g_sub [2, 3, 4, 5, 6] rfl ?_
        exact w_L_law_b940 C E Q h23 _ _ _ _ _ _ hd
      · refine g_iconst (v := 0) C dL_law_938 (by decide) ?_
        exact g_lret C Q hd dL_law_939
  · refine g_iconst (v := 0) C dL_law_921 (by decide) ?_
    exact g_lret C Q hd dL_law_922
theorem w_L_law_b884 {K : KT} {r : Int32} {S1 : St} (C : GC K RX0 cL_law 7 41 []) (E : EH (kΓ K) (kHI K) (kl K)) (Q : GQL K r S1) {k23 : St → Option Nat → Option Nat → Option Nat → Option Nat → Int32 → Option (Int32 × St)} (h23 : ∀ (S : St) (x0 : Option Nat) (x1 : Option Nat) (x2 : Option Nat) (x3 : Option Nat) (x4 : Int32), k23 S x0 x1 x2 x3 x4 = some (r, S1) → G K 7 S 23 [(0, vR x0), (1, vR x1), (2, vR x2), (3, vR x3), (4, vI x4)] []) : ∀ (S : St) (x0 : Option Nat) (x1 : Option Nat) (x2 : Option Nat) (x3 : Option Nat) (x4 : Int32), n_L_law_b884 k23 S x0 x1 x2 x3 x4 = some (r, S1) → G K 7 S 884 [(0, vR x0), (1, vR x1), (2, vR x2), (3, vR x3), (4, vI x4)] [] := by
  intro S x0 x1 x2 x3 x4 hd
  unfold n_L_law_b884 at hd
  refine g_goto (tgt := 1790) C dL_law_884 (by decide) ?_
  refine g_sub [0, 1, 2, 3, 4] rfl ?_
  exact w_L_law_b1790 C E Q h23 _ _ _ _ _ _ hd
theorem w_L_law_b831 {K : KT} {r : Int32} {S1 : St} (C : GC K RX0 cL_law 7 41 []) (E : EH (kΓ K) (kHI K) (kl K)) (Q : GQL K r S1) {k23 : St → Option Nat → Option Nat → Option Nat → Option Nat → Int32 → Option (Int32 × St)} (h23 : ∀ (S : St) (x0 : Option Nat) (x1 : Option Nat) (x2 : Option Nat) (x3 : Option Nat) (x4 : Int32), k23 S x0 x1 x2 x3 x4 = some (r, S1) → G K 7 S 23 [(0, vR x0), (1, vR x1), (2, vR x2), (3, vR x3), (4, vI x4)] []) : ∀ (S : St) (x0 : Option Nat) (x1 : Option Nat) (x2 : Option Nat) (x3 : Option Nat) (x4 : Int32), n_L_law_b831 k23 S x0 x1 x2 x3 x4 = some (r, S1) → G K 7 S 831 [(0, vR x0), (1, vR x1), (2, vR x2), (3, vR x3), (4, vI x4)] [] := by
  intro S x0 x1 x2 x3 x4 hd
  unfold n_L_law_b831 at hd
  refine g_aload_n C dL_law_831 rfl 1 rfl ?_
  refine g_aload_n C dL_law_832 rfl 0 rfl ?_
  refine g_iload C dL_law_833 4 rfl ?_
  refine g_iconst (v := 1) C dL_law_835 (by decide) ?_
  refine g_iadd C dL_law_836 ?_
  obtain ⟨v1, hv1, hd⟩ := Option.bind_eq_some_iff.mp hd
  refine g_iald10 C dL_law_837 hv1 ?_
  refine g_aload_n C dL_law_838 rfl 3 rfl ?_
  obtain ⟨v3, S2, hc, hd⟩ := bn_some hd
  refine g_cSW_v (n := 3) C q1511 q1512 q94 q1513 (by decide +kernel) (by decide) (by decide) dL_law_839 (As := [vR x1, vI v1, vR x3]) (rest := []) rfl rfl (Nat.le_of_ble_eq_true rfl) (m_X0_notices E hc) ?_
  refine g_istore (L' := [(5, vI v3), (0, vR x0), (1, vR x1), (2, vR x2), (3, vR x3), (4, vI x4)]) C dL_law_842 (by decide) rfl ?_
  refine g_aload_n C dL_law_844 rfl 3 rfl ?_
  refine g_aload_n C dL_law_845 rfl 1 rfl ?_
  refine g_iload C dL_law_846 5 rfl ?_
  refine g_iconst (v := 1) C dL_law_848 (by decide) ?_
  refine g_iadd C dL_law_849 ?_
  obtain ⟨v4, hv4, hd⟩ := Option.bind_eq_some_iff.mp hd
  refine g_iald10 C dL_law_850 hv4 ?_
  obtain ⟨hg, hd⟩ := gd_some hd
  obtain ⟨v6, S5, hc, hd⟩ := bn_some hd
  refine g_cV_v (n := 1) C (gk_X3).1 q2215 q2216 q2217 q108 q2218 (by decide +kernel) (by decide) (by decide) dL_law_851 (As := [vI v4]) (rest := []) rfl rfl (Nat.le_of_ble_eq_true rfl) hg (m_X3_notices E hc) ?_
  refine g_istore (L' := [(6, vI v6), (5, vI v3), (0, vR x0), (1, vR x1), (2, vR x2), (3, vR x3), (4, vI x4)]) C dL_law_854 (by decide) rfl ?_
  refine g_aload_n C dL_law_856 rfl 4 rfl ?_
  obtain ⟨hg, hd⟩ := gd_some hd
  obtain ⟨v8, S7, hc, hd⟩ := bn_some hd
  refine g_cV_v (n := 0) C (gk_X3).1 q2108 q2109 q2110 q108 q2111 (by decide +kernel) (by decide) (by decide) dL_law_857 (As := []) (rest := []) rfl rfl (Nat.le_of_ble_eq_true rfl) hg (m_X3_thrown E hc) ?_
  refine g_iload C dL_law_860 1 rfl ?_
  refine g_icmp_eq (tgt := 867) C dL_law_862 (by decide) hd (fun hd => ?_) (fun hd => ?_)
  · refine g_iload C dL_law_867 1 rfl ?_
    refine g_if_ne (tgt := 884) C dL_law_869 (by decide) hd (fun hd => ?_) (fun hd => ?_)
    · refine g_sub [2, 3, 4, 5, 6] rfl ?_
      exact w_L_law_b884 C E Q h23 _ _ _ _ _ _ hd
    · refine g_aload_n C dL_law_872 rfl 5 rfl ?_
      refine g_iconst (v := 0) C dL_law_873 (by decide) ?_
      obtain ⟨v9, hv9, hd⟩ := Option.bind_eq_some_iff.mp hd
      refine g_lald C dL_law_874 hv9 ?_
      refine g_iload C dL_law_875 0 rfl ?_
      refine g_i2l C dL_law_877 ?_
      refine g_lcmp C dL_law_878 ?_
      refine g_if_eq (tgt := 884) C dL_law_879 (by decide) hd (fun hd => ?_) (fun hd => ?_)
      · refine g_sub [2, 3, 4, 5, 6] rfl ?_
        exact w_L_law_b884 C E Q h23 _ _ _ _ _ _ hd
      · refine g_iconst (v := 0) C dL_law_882 (by decide) ?_
        exact g_lret C Q hd dL_law_883
  · refine g_iconst (v := 0) C dL_law_865 (by decide) ?_
    exact g_lret C Q hd dL_law_866
theorem w_L_law_b828 {K : KT} {r : Int32} {S1 : St} (C : GC K RX0 cL_law 7 41 []) (E : EH (kΓ K) (kHI K) (kl K)) (Q : GQL K r S1) {k23 : St → Option Nat → Option Nat → Option Nat → Option Nat → Int32 → Option (Int32 × St)} (h23 : ∀ (S : St) (x0 : Option Nat) (x1 : Option Nat) (x2 : Option Nat) (x3 : Option Nat) (x4 : Int32), k23 S x0 x1 x2 x3 x4 = some (r, S1) → G K 7 S 23 [(0, vR x0), (1, vR x1), (2, vR x2), (3, vR x3), (4, vI x4)] []) : ∀ (S : St) (x0 : Option Nat) (x1 : Option Nat) (x2 : Option Nat) (x3 : Option Nat) (x4 : Int32), n_L_law_b828 k23 S x0 x1 x2 x3 x4 = some (r, S1) → G K 7 S 828 [(0, vR x0), (1, vR x1), (2, vR x2), (3, vR x3), (4, vI x4)] [] := by
  intro S x0 x1 x2 x3 x4 hd
  unfold n_L_law_b828 at hd
  refine g_goto (tgt := 1790) C dL_law_828 (by decide) ?_
  refine g_sub [0, 1, 2, 3, 4] rfl ?_
  exact w_L_law_b1790 C E Q h23 _ _ _ _ _ _ hd
theorem w_L_law_b775 {K : KT} {r : Int32} {S1 : St} (C : GC K RX0 cL_law 7 41 []) (E : EH (kΓ K) (kHI K) (kl K)) (Q : GQL K r S1) {k23 : St → Option Nat → Option Nat → Option Nat → Option Nat → Int32 → Option (Int32 × St)} (h23 : ∀ (S : St) (x0 : Option Nat) (x1 : Option Nat) (x2 : Option Nat) (x3 : Option Nat) (x4 : Int32), k23 S x0 x1 x2 x3 x4 = some (r, S1) → G K 7 S 23 [(0, vR x0), (1, vR x1), (2, vR x2), (3, vR x3), (4, vI x4)] []) : ∀ (S : St) (x0 : Option Nat) (x1 : Option Nat) (x2 : Option Nat) (x3 : Option Nat) (x4 : Int32), n_L_law_b775 k23 S x0 x1 x2 x3 x4 = some (r, S1) → G K 7 S 775 [(0, vR x0), (1, vR x1), (2, vR x2), (3, vR x3), (4, vI x4)] [] := by
  intro S x0 x1 x2 x3 x4 hd
  unfold n_L_law_b775 at hd
  refine g_aload_n C dL_law_775 rfl 1 rfl ?_
  refine g_aload_n C dL_law_776 rfl 0 rfl ?_
  refine g_iload C dL_law_777 4 rfl ?_
  refine g_iconst (v := 1) C dL_law_779 (by decide) ?_
  refine g_iadd C dL_law_780 ?_
  obtain ⟨v1, hv1, hd⟩ := Option.bind_eq_some_iff.mp hd
  refine g_iald10 C dL_law_781 hv1 ?_
  refine g_aload_n C dL_law_782 rfl 3 rfl ?_
  obtain ⟨v3, S2, hc, hd⟩ := bn_some hd
  refine g_cSW_v (n := 3) C q1420 q1421 q94 q1422 (by decide +kernel) (by decide) (by decide) dL_law_783 (As := [vR x1, vI v1, vR x3]) (rest := []) rfl rfl (Nat.le_of_ble_eq_true rfl) (m_X0_watch E hc) ?_
  refine g_istore (L' := [(5, vI v3), (0, vR x0), (1, vR x1), (2, vR x2), (3, vR x3), (4, vI x4)]) C dL_law_786 (by decide) rfl ?_
  refine g_aload_n C dL_law_788 rfl 3 rfl ?_
  refine g_aload_n C dL_law_789 rfl 1 rfl ?_
  refine g_iload C dL_law_790 5 rfl ?_
  refine g_iconst (v := 1) C dL_law_792 (by decide) ?_
  refine g_iadd C dL_law_793 ?_
  obtain ⟨v4, hv4, hd⟩ := Option.bind_eq_some_iff.mp hd
  refine g_iald10 C dL_law_794 hv4 ?_
  obtain ⟨hg, hd⟩ := gd_some hd
  obtain ⟨v6, S5, hc, hd⟩ := bn_some hd
  refine g_cV_v (n := 1) C (gk_X3).1 q2207 q2208 q2209 q108 q2210 (by decide +kernel) (by decide) (by decide) dL_law_795 (As := [vI v4]) (rest := []) rfl rfl (Nat.le_of_ble_eq_true rfl) hg (m_X3_watch E hc) ?_
  refine g_istore (L' := [(6, vI v6), (5, vI v3), (0, vR x0), (1, vR x1), (2, vR x2), (3, vR x3), (4, vI x4)]) C dL_law_798 (by decide) rfl ?_
  refine g_aload_n C dL_law_800 rfl 4 rfl ?_
  obtain ⟨hg, hd⟩ := gd_some hd
  obtain ⟨v8, S7, hc, hd⟩ := bn_some hd
  refine g_cV_v (n := 0) C (gk_X3).1 q2108 q2109 q2110 q108 q2111 (by decide +kernel) (by decide) (by decide) dL_law_801 (As := []) (rest := []) rfl rfl (Nat.le_of_ble_eq_true rfl) hg (m_X3_thrown E hc) ?_
  refine g_iload C dL_law_804 1 rfl ?_
  refine g_icmp_eq (tgt := 811) C dL_law_806 (by decide) hd (fun hd => ?_) (fun hd => ?_)
  · refine g_iload C dL_law_811 1 rfl ?_
    refine g_if_ne (tgt := 828) C dL_law_813 (by decide) hd (fun hd => ?_) (fun hd => ?_)
    · refine g_sub [2, 3, 4, 5, 6] rfl ?_
      exact w_L_law_b828 C E Q h23 _ _ _ _ _ _ hd
    · refine g_aload_n C dL_law_816 rfl 5 rfl ?_
      refine g_iconst (v := 0) C dL_law_817 (by decide) ?_
      obtain ⟨v9, hv9, hd⟩ := Option.bind_eq_some_iff.mp hd
      refine g_lald C dL_law_818 hv9 ?_
      refine g_iload C dL_law_819 0 rfl ?_
      refine g_i2l C dL_law_821 ?_
      refine g_lcmp C dL_law_822 ?_
      refine g_if_eq (tgt := 828) C dL_law_823 (by decide) hd (fun hd => ?_) (fun hd => ?_)
      · refine g_sub [2, 3, 4, 5, 6] rfl ?_
        exact w_L_law_b828 C E Q h23 _ _ _ _ _ _ hd
      · refine g_iconst (v := 0) C dL_law_826 (by decide) ?_
        exact g_lret C Q hd dL_law_827
  · refine g_iconst (v := 0) C dL_law_809 (by decide) ?_
    exact g_lret C Q hd dL_law_810
theorem w_L_law_b762 {K : KT} {r : Int32} {S1 : St} (C : GC K RX0 cL_law 7 41 []) (E : EH (kΓ K) (kHI K) (kl K)) (Q : GQL K r S1) {k23 : St → Option Nat → Option Nat → Option Nat → Option Nat → Int32 → Option (Int32 × St)} (h23 : ∀ (S : St) (x0 : Option Nat) (x1 : Option Nat) (x2 : Option Nat) (x3 : Option Nat) (x4 : Int32), k23 S x0 x1 x2 x3 x4 = some (r, S1) → G K 7 S 23 [(0, vR x0), (1, vR x1), (2, vR x2), (3, vR x3), (4, vI x4)] []) : ∀ (S : St) (x0 : Option Nat) (x1 : Option Nat) (x2 : Option Nat) (x3 : Option Nat) (x4 : Int32), n_L_law_b762 k23 S x0 x1 x2 x3 x4 = some (r, S1) → G K 7 S 762 [(0, vR x0), (1, vR x1), (2, vR x2), (3, vR x3), (4, vI x4)] [] := by
  intro S x0 x1 x2 x3 x4 hd
  unfold n_L_law_b762 at hd
  refine g_aload_n C dL_law_762 rfl 1 rfl ?_
  obtain ⟨hg, hd⟩ := gd_some hd
  obtain ⟨v2, S1, hc, hd⟩ := bn_some hd
  refine g_cV_v (n := 0) C (gk_X1).1 q422 q423 q424 q95 q425 (by decide +kernel) (by decide) (by decide) dL_law_763 (As := []) (rest := []) rfl rfl (Nat.le_of_ble_eq_true rfl) hg (m_X1_nodes E hc) ?_
  refine g_aload_n C dL_law_766 rfl 2 rfl ?_
  obtain ⟨hg, hd⟩ := gd_some hd
  obtain ⟨v4, S3, hc, hd⟩ := bn_some hd
  refine g_cV_v (n := 0) C (gk_X3).1 q2203 q2204 q2205 q108 q2206 (by decide +kernel) (by decide) (by decide) dL_law_767 (As := []) (rest := [vI v2]) rfl rfl (Nat.le_of_ble_eq_true rfl) hg (m_X3_nodes E hc) ?_
  refine g_icmp_eq (tgt := 1790) C dL_law_770 (by decide) hd (fun hd => ?_) (fun hd => ?_)
  · refine g_sub [0, 1, 2, 3, 4] rfl ?_
    exact w_L_law_b1790 C E Q h23 _ _ _ _ _ _ hd
  · refine g_iconst (v := 0) C dL_law_773 (by decide) ?_
    exact g_lret C Q hd dL_law_774
theorem w_L_law_b759 {K : KT} {r : Int32} {S1 : St} (C : GC K RX0 cL_law 7 41 []) (E : EH (kΓ K) (kHI K) (kl K)) (Q : GQL K r S1) {k23 : St → Option Nat → Option Nat → Option Nat → Option Nat → Int32 → Option (Int32 × St)} (h23 : ∀ (S : St) (x0 : Option Nat) (x1 : Option Nat) (x2 : Option Nat) (x3 : Option Nat) (x4 : Int32), k23 S x0 x1 x2 x3 x4 = some (r, S1) → G K 7 S 23 [(0, vR x0), (1, vR x1), (2, vR x2), (3, vR x3), (4, vI x4)] []) : ∀ (S : St) (x0 : Option Nat) (x1 : Option Nat) (x2 : Option Nat) (x3 : Option Nat) (x4 : Int32), n_L_law_b759 k23 S x0 x1 x2 x3 x4 = some (r, S1) → G K 7 S 759 [(0, vR x0), (1, vR x1), (2, vR x2), (3, vR x3), (4, vI x4)] [] := by
  intro S x0 x1 x2 x3 x4 hd
  unfold n_L_law_b759 at hd
  refine g_goto (tgt := 1790) C dL_law_759 (by decide) ?_
  refine g_sub [0, 1, 2, 3, 4] rfl ?_
  exact w_L_law_b1790 C E Q h23 _ _ _ _ _ _ hd
theorem w_L_law_b753 {K : KT} {r : Int32} {S1 : St} (C : GC K RX0 cL_law 7 41 []) (E : EH (kΓ K) (kHI K) (kl K)) (Q : GQL K r S1) {k23 : St → Option Nat → Option Nat → Option Nat → Option Nat → Int32 → Option (Int32 × St)} (h23 : ∀ (S : St) (x0 : Option Nat) (x1 : Option Nat) (x2 : Option Nat) (x3 : Option Nat) (x4 : Int32), k23 S x0 x1 x2 x3 x4 = some (r, S1) → G K 7 S 23 [(0, vR x0), (1, vR x1), (2, vR x2), (3, vR x3), (4, vI x4)] []) : ∀ (S : St) (x0 : Option Nat) (x1 : Option Nat) (x2 : Option Nat) (x3 : Option Nat) (x4 : Int32) (y0 : Int64) (y1 : Int64), n_L_law_b753 k23 S x0 x1 x2 x3 x4 y0 y1 = some (r, S1) → G K 7 S 753 [(0, vR x0), (1, vR x1), (2, vR x2), (3, vR x3), (4, vI x4)] [vL y0, vL y1] := by
  intro S x0 x1 x2 x3 x4 y0 y1 hd
  unfold n_L_law_b753 at hd
  refine g_lcmp C dL_law_753 ?_
  refine g_if_eq (tgt := 759) C dL_law_754 (by decide) hd (fun hd => ?_) (fun hd => ?_)
  · refine g_sub [0, 1, 2, 3, 4] rfl ?_
    exact w_L_law_b759 C E Q h23 _ _ _ _ _ _ hd
  · refine g_iconst (v := 0) C dL_law_757 (by decide) ?_
    exact g_lret C Q hd dL_law_758
theorem w_L_law_b687 {K : KT} {r : Int32} {S1 : St} (C : GC K RX0 cL_law 7 41 []) (E : EH (kΓ K) (kHI K) (kl K)) (Q : GQL K r S1) {k23 : St → Option Nat → Option Nat → Option Nat → Option Nat → Int32 → Option (Int32 × St)} (h23 : ∀ (S : St) (x0 : Option Nat) (x1 : Option Nat) (x2 : Option Nat) (x3 : Option Nat) (x4 : Int32), k23 S x0 x1 x2 x3 x4 = some (r, S1) → G K 7 S 23 [(0, vR x0), (1, vR x1), (2, vR x2), (3, vR x3), (4, vI x4)] []) : ∀ (S : St) (x0 : Option Nat) (x1 : Option Nat) (x2 : Option Nat) (x3 : Option Nat) (x4 : Int32), n_L_law_b687 k23 S x0 x1 x2 x3 x4 = some (r, S1) → G K 7 S 687 [(0, vR x0), (1, vR x1), (2, vR x2), (3, vR x3), (4, vI x4)] [] := by
  intro S x0 x1 x2 x3 x4 hd
  unfold n_L_law_b687 at hd
  refine g_aload_n C dL_law_687 rfl 1 rfl ?_
  refine g_aload_n C dL_law_688 rfl 0 rfl ?_
  refine g_iload C dL_law_689 4 rfl ?_
  refine g_iconst (v := 1) C dL_law_691 (by decide) ?_
  refine g_iadd C dL_law_692 ?_
  obtain ⟨v1, hv1, hd⟩ := Option.bind_eq_some_iff.mp hd
  refine g_iald10 C dL_law_693 hv1 ?_
  refine g_aload_n C dL_law_694 rfl 0 rfl ?_
  refine g_iload C dL_law_695 4 rfl ?_
  refine g_iconst (v := 2) C dL_law_697 (by decide) ?_
  refine g_iadd C dL_law_698 ?_
  obtain ⟨v2, hv2, hd⟩ := Option.bind_eq_some_iff.mp hd
  refine g_iald10 C dL_law_699 hv2 ?_
  refine g_aload_n C dL_law_700 rfl 3 rfl ?_
  obtain ⟨v4, S3, hc, hd⟩ := bn_some hd
  refine g_cSW_v (n := 4) C q1406 q1407 q94 q1408 (by decide +kernel) (by decide) (by decide) dL_law_701 (As := [vR x1, vI v1, vI v2, vR x3]) (rest := []) rfl rfl (Nat.le_of_ble_eq_true rfl) (m_X0_mayRead E hc) ?_
  refine g_istore (L' := [(5, vI v4), (0, vR x0), (1, vR x1), (2, vR x2), (3, vR x3), (4, vI x4)]) C dL_law_704 (by decide) rfl ?_
  refine g_aload_n C dL_law_706 rfl 3 rfl ?_
  refine g_aload_n C dL_law_707 rfl 1 rfl ?_
  refine g_iload C dL_law_708 5 rfl ?_
  refine g_iconst (v := 1) C dL_law_710 (by decide) ?_
  refine g_iadd C dL_law_711 ?_
  obtain ⟨v5, hv5, hd⟩ := Option.bind_eq_some_iff.mp hd
  refine g_iald10 C dL_law_712 hv5 ?_
  refine g_aload_n C dL_law_713 rfl 1 rfl ?_
  refine g_iload C dL_law_714 5 rfl ?_
  refine g_iconst (v := 2) C dL_law_716 (by decide) ?_
  refine g_iadd C dL_law_717 ?_
  obtain ⟨v6, hv6, hd⟩ := Option.bind_eq_some_iff.mp hd
  refine g_iald10 C dL_law_718 hv6 ?_
  obtain ⟨hg, hd⟩ := gd_some hd
  obtain ⟨v8, S7, hc, hd⟩ := bn_some hd
  refine g_cV_v (n := 2) C (gk_X3).1 q2195 q2196 q2197 q108 q2198 (by decide +kernel) (by decide) (by decide) dL_law_719 (As := [vI v5, vI v6]) (rest := []) rfl rfl (Nat.le_of_ble_eq_true rfl) hg (m_X3_mayRead E hc) ?_
  refine g_istore (L' := [(6, vI v8), (5, vI v4), (0, vR x0), (1, vR x1), (2, vR x2), (3, vR x3), (4, vI x4)]) C dL_law_722 (by decide) rfl ?_
  refine g_aload_n C dL_law_724 rfl 4 rfl ?_
  obtain ⟨hg, hd⟩ := gd_some hd
  obtain ⟨v10, S9, hc, hd⟩ := bn_some hd
  refine g_cV_v (n := 0) C (gk_X3).1 q2108 q2109 q2110 q108 q2111 (by decide +kernel) (by decide) (by decide) dL_law_725 (As := []) (rest := []) rfl rfl (Nat.le_of_ble_eq_true rfl) hg (m_X3_thrown E hc) ?_
  refine g_iload C dL_law_728 1 rfl ?_
  refine g_icmp_eq (tgt := 735) C dL_law_730 (by decide) hd (fun hd => ?_) (fun hd => ?_)
  · refine g_iload C dL_law_735 1 rfl ?_
    refine g_if_ne (tgt := 759) C dL_law_737 (by decide) hd (fun hd => ?_) (fun hd => ?_)
    · refine g_sub [2, 3, 4, 5, 6] rfl ?_
      exact w_L_law_b759 C E Q h23 _ _ _ _ _ _ hd
    · refine g_aload_n C dL_law_740 rfl 5 rfl ?_
      refine g_iconst (v := 0) C dL_law_741 (by decide) ?_
      obtain ⟨v11, hv11, hd⟩ := Option.bind_eq_some_iff.mp hd
      refine g_lald C dL_law_742 hv11 ?_
      refine g_iload C dL_law_743 0 rfl ?_
      refine g_if_eq (tgt := 752) C dL_law_745 (by decide) hd (fun hd => ?_) (fun hd => ?_)
      · refine g_lconst (v := 0) C dL_law_752 (by decide) ?_
        refine g_sub [2, 3, 4, 5, 6] rfl ?_
        exact w_L_law_b753 C E Q h23 _ _ _ _ _ _ _ _ hd
      · refine g_lconst (v := 1) C dL_law_748 (by decide) ?_
        refine g_goto (tgt := 753) C dL_law_749 (by decide) ?_
        refine g_sub [2, 3, 4, 5, 6] rfl ?_
        exact w_L_law_b753 C E Q h23 _ _ _ _ _ _ _ _ hd
  · refine g_iconst (v := 0) C dL_law_733 (by decide) ?_
    exact g_lret C Q hd dL_law_734
theorem w_L_law_b684 {K : KT} {r : Int32} {S1 : St} (C : GC K RX0 cL_law 7 41 []) (E : EH (kΓ K) (kHI K) (kl K)) (Q : GQL K r S1) {k23 : St → Option Nat → Option Nat → Option Nat → Option Nat → Int32 → Option (Int32 × St)} (h23 : ∀ (S : St) (x0 : Option Nat) (x1 : Option Nat) (x2 : Option Nat) (x3 : Option Nat) (x4 : Int32), k23 S x0 x1 x2 x3 x4 = some (r, S1) → G K 7 S 23 [(0, vR x0), (1, vR x1), (2, vR x2), (3, vR x3), (4, vI x4)] []) : ∀ (S : St) (x0 : Option Nat) (x1 : Option Nat) (x2 : Option Nat) (x3 : Option Nat) (x4 : Int32), n_L_law_b684 k23 S x0 x1 x2 x3 x4 = some (r, S1) → G K 7 S 684 [(0, vR x0), (1, vR x1), (2, vR x2), (3, vR x3), (4, vI x4)] [] := by
  intro S x0 x1 x2 x3 x4 hd
  unfold n_L_law_b684 at hd
  refine g_goto (tgt := 1790) C dL_law_684 (by decide) ?_
  refine g_sub [0, 1, 2, 3, 4] rfl ?_
  exact w_L_law_b1790 C E Q h23 _ _ _ _ _ _ hd
theorem w_L_law_b619 {K : KT} {r : Int32} {S1 : St} (C : GC K RX0 cL_law 7 41 []) (E : EH (kΓ K) (kHI K) (kl K)) (Q : GQL K r S1) {k23 : St → Option Nat → Option Nat → Option Nat → Option Nat → Int32 → Option (Int32 × St)} (h23 : ∀ (S : St) (x0 : Option Nat) (x1 : Option Nat) (x2 : Option Nat) (x3 : Option Nat) (x4 : Int32), k23 S x0 x1 x2 x3 x4 = some (r, S1) → G K 7 S 23 [(0, vR x0), (1, vR x1), (2, vR x2), (3, vR x3), (4, vI x4)] []) : ∀ (S : St) (x0 : Option Nat) (x1 : Option Nat) (x2 : Option Nat) (x3 : Option Nat) (x4 : Int32), n_L_law_b619 k23 S x0 x1 x2 x3 x4 = some (r, S1) → G K 7 S 619 [(0, vR x0), (1, vR x1), (2, vR x2), (3, vR x3), (4, vI x4)] [] := by
  intro S x0 x1 x2 x3 x4 hd
  unfold n_L_law_b619 at hd
  refine g_aload_n C dL_law_619 rfl 1 rfl ?_
  refine g_aload_n C dL_law_620 rfl 0 rfl ?_
  refine g_iload C dL_law_621 4 rfl ?_
  refine g_iconst (v := 1) C dL_law_623 (by decide) ?_
  refine g_iadd C dL_law_624 ?_
  obtain ⟨v1, hv1, hd⟩ := Option.bind_eq_some_iff.mp hd
  refine g_iald10 C dL_law_625 hv1 ?_
  refine g_aload_n C dL_law_626 rfl 0 rfl ?_
  refine g_iload C dL_law_627 4 rfl ?_
  refine g_iconst (v := 2) C dL_law_629 (by decide) ?_
  refine g_iadd C dL_law_630 ?_
  obtain ⟨v2, hv2, hd⟩ := Option.bind_eq_some_iff.mp hd
  refine g_iald10 C dL_law_631 hv2 ?_
  refine g_aload_n C dL_law_632 rfl 3 rfl ?_
  obtain ⟨v4, S3, hc, hd⟩ := bn_some hd
  refine g_cSW_v (n := 4) C q1399 q1400 q94 q1401 (by decide +kernel) (by decide) (by decide) dL_law_633 (As := [vR x1, vI v1, vI v2, vR x3]) (rest := []) rfl rfl (Nat.le_of_ble_eq_true rfl) (m_X0_people E hc) ?_
  refine g_istore (L' := [(5, vI v4), (0, vR x0), (1, vR x1), (2, vR x2), (3, vR x3), (4, vI x4)]) C dL_law_636 (by decide) rfl ?_
  refine g_aload_n C dL_law_638 rfl 3 rfl ?_
  refine g_aload_n C dL_law_639 rfl 1 rfl ?_
  refine g_iload C dL_law_640 5 rfl ?_
  refine g_iconst (v := 1) C dL_law_642 (by decide) ?_
  refine g_iadd C dL_law_643 ?_
  obtain ⟨v5, hv5, hd⟩ := Option.bind_eq_some_iff.mp hd
  refine g_iald10 C dL_law_644 hv5 ?_
  refine g_aload_n C dL_law_645 rfl 1 rfl ?_
  refine g_iload C dL_law_646 5 rfl ?_
  refine g_iconst (v := 2) C dL_law_648 (by decide) ?_
  refine g_iadd C dL_law_649 ?_
  obtain ⟨v6, hv6, hd⟩ := Option.bind_eq_some_iff.mp hd
  refine g_iald10 C dL_law_650 hv6 ?_
  obtain ⟨hg, hd⟩ := gd_some hd
  obtain ⟨v8, S7, hc, hd⟩ := bn_some hd
  refine g_cV_v (n := 2) C (gk_X3).1 q2191 q2192 q2193 q108 q2194 (by decide +kernel) (by decide) (by decide) dL_law_651 (As := [vI v5, vI v6]) (rest := []) rfl rfl (Nat.le_of_ble_eq_true rfl) hg (m_X3_people E hc) ?_
  refine g_istore (L' := [(6, vI v8), (5, vI v4), (0, vR x0), (1, vR x1), (2, vR x2), (3, vR x3), (4, vI x4)]) C dL_law_654 (by decide) rfl ?_
  refine g_aload_n C dL_law_656 rfl 4 rfl ?_
  obtain ⟨hg, hd⟩ := gd_some hd
  obtain ⟨v10, S9, hc, hd⟩ := bn_some hd
  refine g_cV_v (n := 0) C (gk_X3).1 q2108 q2109 q2110 q108 q2111 (by decide +kernel) (by decide) (by decide) dL_law_657 (As := []) (rest := []) rfl rfl (Nat.le_of_ble_eq_true rfl) hg (m_X3_thrown E hc) ?_
  refine g_iload C dL_law_660 1 rfl ?_
  refine g_icmp_eq (tgt := 667) C dL_law_662 (by decide) hd (fun hd => ?_) (fun hd => ?_)
  · refine g_iload C dL_law_667 1 rfl ?_
    refine g_if_ne (tgt := 684) C dL_law_669 (by decide) hd (fun hd => ?_) (fun hd => ?_)
    · refine g_sub [2, 3, 4, 5, 6] rfl ?_
      exact w_L_law_b684 C E Q h23 _ _ _ _ _ _ hd
    · refine g_aload_n C dL_law_672 rfl 5 rfl ?_
      refine g_iconst (v := 0) C dL_law_673 (by decide) ?_
      obtain ⟨v11, hv11, hd⟩ := Option.bind_eq_some_iff.mp hd
      refine g_lald C dL_law_674 hv11 ?_
      refine g_iload C dL_law_675 0 rfl ?_
      refine g_i2l C dL_law_677 ?_
      refine g_lcmp C dL_law_678 ?_
      refine g_if_eq (tgt := 684) C dL_law_679 (by decide) hd (fun hd => ?_) (fun hd => ?_)
      · refine g_sub [2, 3, 4, 5, 6] rfl ?_
        exact w_L_law_b684 C E Q h23 _ _ _ _ _ _ hd
      · refine g_iconst (v := 0) C dL_law_682 (by decide) ?_
        exact g_lret C Q hd dL_law_683
  · refine g_iconst (v := 0) C dL_law_665 (by decide) ?_
    exact g_lret C Q hd dL_law_666
theorem w_L_law_b616 {K : KT} {r : Int32} {S1 : St} (C : GC K RX0 cL_law 7 41 []) (E : EH (kΓ K) (kHI K) (kl K)) (Q : GQL K r S1) {k23 : St → Option Nat → Option Nat → Option Nat → Option Nat → Int32 → Option (Int32 × St)} (h23 : ∀ (S : St) (x0 : Option Nat) (x1 : Option Nat) (x2 : Option Nat) (x3 : Option Nat) (x4 : Int32), k23 S x0 x1 x2 x3 x4 = some (r, S1) → G K 7 S 23 [(0, vR x0), (1, vR x1), (2, vR x2), (3, vR x3), (4, vI x4)] []) : ∀ (S : St) (x0 : Option Nat) (x1 : Option Nat) (x2 : Option Nat) (x3 : Option Nat) (x4 : Int32), n_L_law_b616 k23 S x0 x1 x2 x3 x4 = some (r, S1) → G K 7 S 616 [(0, vR x0), (1, vR x1), (2, vR x2), (3, vR x3), (4, vI x4)] [] := by
  intro S x0 x1 x2 x3 x4 hd
  unfold n_L_law_b616 at hd
  refine g_goto (tgt := 1790) C dL_law_616 (by decide) ?_
  refine g_sub [0, 1, 2, 3, 4] rfl ?_
  exact w_L_law_b1790 C E Q h23 _ _ _ _ _ _ hd
theorem w_L_law_b610 {K : KT} {r : Int32} {S1 : St} (C : GC K RX0 cL_law 7 41 []) (E : EH (kΓ K) (kHI K) (kl K)) (Q : GQL K r S1) {k23 : St → Option Nat → Option Nat → Option Nat → Option Nat → Int32 → Option (Int32 × St)} (h23 : ∀ (S : St) (x0 : Option Nat) (x1 : Option Nat) (x2 : Option Nat) (x3 : Option Nat) (x4 : Int32), k23 S x0 x1 x2 x3 x4 = some (r, S1) → G K 7 S 23 [(0, vR x0), (1, vR x1), (2, vR x2), (3, vR x3), (4, vI x4)] []) : ∀ (S : St) (x0 : Option Nat) (x1 : Option Nat) (x2 : Option Nat) (x3 : Option Nat) (x4 : Int32) (y0 : Int64) (y1 : Int64), n_L_law_b610 k23 S x0 x1 x2 x3 x4 y0 y1 = some (r, S1) → G K 7 S 610 [(0, vR x0), (1, vR x1), (2, vR x2), (3, vR x3), (4, vI x4)] [vL y0, vL y1] := by
  intro S x0 x1 x2 x3 x4 y0 y1 hd
  unfold n_L_law_b610 at hd
  refine g_lcmp C dL_law_610 ?_
  refine g_if_eq (tgt := 616) C dL_law_611 (by decide) hd (fun hd => ?_) (fun hd => ?_)
  · refine g_sub [0, 1, 2, 3, 4] rfl ?_
    exact w_L_law_b616 C E Q h23 _ _ _ _ _ _ hd
  · refine g_iconst (v := 0) C dL_law_614 (by decide) ?_
    exact g_lret C Q hd dL_law_615
theorem w_L_law_b576 {K : KT} {r : Int32} {S1 : St} (C : GC K RX0 cL_law 7 41 []) (E : EH (kΓ K) (kHI K) (kl K)) (Q : GQL K r S1) {k23 : St → Option Nat → Option Nat → Option Nat → Option Nat → Int32 → Option (Int32 × St)} (h23 : ∀ (S : St) (x0 : Option Nat) (x1 : Option Nat) (x2 : Option Nat) (x3 : Option Nat) (x4 : Int32), k23 S x0 x1 x2 x3 x4 = some (r, S1) → G K 7 S 23 [(0, vR x0), (1, vR x1), (2, vR x2), (3, vR x3), (4, vI x4)] []) : ∀ (S : St) (x0 : Option Nat) (x1 : Option Nat) (x2 : Option Nat) (x3 : Option Nat) (x4 : Int32) (x5 : Int32) (y0 : Int32) (y1 : Int32) (y2 : Option Nat), n_L_law_b576 k23 S x0 x1 x2 x3 x4 x5 y0 y1 y2 = some (r, S1) → G K 7 S 576 [(0, vR x0), (1, vR x1), (2, vR x2), (3, vR x3), (4, vI x4), (5, vI x5)] [vI y0, vI y1, vR y2] := by
  intro S x0 x1 x2 x3 x4 x5 y0 y1 y2 hd
  unfold n_L_law_b576 at hd
  obtain ⟨hg, hd⟩ := gd_some hd
  obtain ⟨v2, S1, hc, hd⟩ := bn_some hd
  refine g_cV_v (n := 2) C (gk_X3).1 q2187 q2188 q2189 q108 q2190 (by decide +kernel) (by decide) (by decide) dL_law_576 (As := [vI y1, vI y0]) (rest := []) rfl rfl (Nat.le_of_ble_eq_true rfl) hg (m_X3_lock E hc) ?_
  refine g_istore (L' := [(6, vI v2), (0, vR x0), (1, vR x1), (2, vR x2), (3, vR x3), (4, vI x4), (5, vI x5)]) C dL_law_579 (by decide) rfl ?_
  refine g_aload_n C dL_law_581 rfl 3 rfl ?_
  obtain ⟨hg, hd⟩ := gd_some hd
  obtain ⟨v4, S3, hc, hd⟩ := bn_some hd
  refine g_cV_v (n := 0) C (gk_X3).1 q2108 q2109 q2110 q108 q2111 (by decide +kernel) (by decide) (by decide) dL_law_582 (As := []) (rest := []) rfl rfl (Nat.le_of_ble_eq_true rfl) hg (m_X3_thrown E hc) ?_
  refine g_iload C dL_law_585 6 rfl ?_
  refine g_icmp_eq (tgt := 592) C dL_law_587 (by decide) hd (fun hd => ?_) (fun hd => ?_)
  · refine g_iload C dL_law_592 6 rfl ?_
    refine g_if_ne (tgt := 616) C dL_law_594 (by decide) hd (fun hd => ?_) (fun hd => ?_)
    · refine g_sub [1, 2, 3, 4, 5] rfl ?_
      exact w_L_law_b616 C E Q h23 _ _ _ _ _ _ hd
    · refine g_aload_n C dL_law_597 rfl 4 rfl ?_
      refine g_iconst (v := 0) C dL_law_598 (by decide) ?_
      obtain ⟨v5, hv5, hd⟩ := Option.bind_eq_some_iff.mp hd
      refine g_lald C dL_law_599 hv5 ?_
      refine g_iload C dL_law_600 0 rfl ?_
      refine g_if_eq (tgt := 609) C dL_law_602 (by decide) hd (fun hd => ?_) (fun hd => ?_)
      · refine g_lconst (v := 0) C dL_law_609 (by decide) ?_
        refine g_sub [1, 2, 3, 4, 5] rfl ?_
        exact w_L_law_b610 C E Q h23 _ _ _ _ _ _ _ _ hd
      · refine g_lconst (v := 1) C dL_law_605 (by decide) ?_
        refine g_goto (tgt := 610) C dL_law_606 (by decide) ?_
        refine g_sub [1, 2, 3, 4, 5] rfl ?_
        exact w_L_law_b610 C E Q h23 _ _ _ _ _ _ _ _ hd
  · refine g_iconst (v := 0) C dL_law_590 (by decide) ?_
    exact g_lret C Q hd dL_law_591
theorem w_L_law_b549 {K : KT} {r : Int32} {S1 : St} (C : GC K RX0 cL_law 7 41 []) (E : EH (kΓ K) (kHI K) (kl K)) (Q : GQL K r S1) {k23 : St → Option Nat → Option Nat → Option Nat → Option Nat → Int32 → Option (Int32 × St)} (h23 : ∀ (S : St) (x0 : Option Nat) (x1 : Option Nat) (x2 : Option Nat) (x3 : Option Nat) (x4 : Int32), k23 S x0 x1 x2 x3 x4 = some (r, S1) → G K 7 S 23 [(0, vR x0), (1, vR x1), (2, vR x2), (3, vR x3), (4, vI x4)] []) : ∀ (S : St) (x0 : Option Nat) (x1 : Option Nat) (x2 : Option Nat) (x3 : Option Nat) (x4 : Int32) (y0 : Int32) (y1 : Int32) (y2 : Option Nat), n_L_law_b549 k23 S x0 x1 x2 x3 x4 y0 y1 y2 = some (r, S1) → G K 7 S 549 [(0, vR x0), (1, vR x1), (2, vR x2), (3, vR x3), (4, vI x4)] [vI y0, vI y1, vR y2] := by
  intro S x0 x1 x2 x3 x4 y0 y1 y2 hd
  unfold n_L_law_b549 at hd
  refine g_aload_n C dL_law_549 rfl 3 rfl ?_
  obtain ⟨v2, S1, hc, hd⟩ := bn_some hd
  refine g_cSW_v (n := 4) C q1392 q1393 q94 q1394 (by decide +kernel) (by decide) (by decide) dL_law_550 (As := [vR y2, vI y1, vI y0, vR x3]) (rest := []) rfl rfl (Nat.le_of_ble_eq_true rfl) (m_X0_lock E hc) ?_
  refine g_istore (L' := [(5, vI v2), (0, vR x0), (1, vR x1), (2, vR x2), (3, vR x3), (4, vI x4)]) C dL_law_553 (by decide) rfl ?_
  refine g_aload_n C dL_law_555 rfl 3 rfl ?_
  refine g_aload_n C dL_law_556 rfl 1 rfl ?_
  refine g_iload C dL_law_557 5 rfl ?_
  refine g_iconst (v := 1) C dL_law_559 (by decide) ?_
  refine g_iadd C dL_law_560 ?_
  obtain ⟨v3, hv3, hd⟩ := Option.bind_eq_some_iff.mp hd
  refine g_iald10 C dL_law_561 hv3 ?_
  refine g_aload_n C dL_law_562 rfl 1 rfl ?_
  refine g_iload C dL_law_563 5 rfl ?_
  refine g_iconst (v := 2) C dL_law_565 (by decide) ?_
  refine g_iadd C dL_law_566 ?_
  obtain ⟨v4, hv4, hd⟩ := Option.bind_eq_some_iff.mp hd
  refine g_iald10 C dL_law_567 hv4 ?_
  refine g_if_eq (tgt := 575) C dL_law_568 (by decide) hd (fun hd => ?_) (fun hd => ?_)
  · refine g_iconst (v := 0) C dL_law_575 (by decide) ?_
    refine g_sub [1, 2, 3, 4, 5, 0] rfl ?_
    exact w_L_law_b576 C E Q h23 _ _ _ _ _ _ _ _ _ _ hd
  · refine g_iconst (v := 1) C dL_law_571 (by decide) ?_
    refine g_goto (tgt := 576) C dL_law_572 (by decide) ?_
    refine g_sub [1, 2, 3, 4, 5, 0] rfl ?_
    exact w_L_law_b576 C E Q h23 _ _ _ _ _ _ _ _ _ _ hd
theorem w_L_law_b528 {K : KT} {r : Int32} {S1 : St} (C : GC K RX0 cL_law 7 41 []) (E : EH (kΓ K) (kHI K) (kl K)) (Q : GQL K r S1) {k23 : St → Option Nat → Option Nat → Option Nat → Option Nat → Int32 → Option (Int32 × St)} (h23 : ∀ (S : St) (x0 : Option Nat) (x1 : Option Nat) (x2 : Option Nat) (x3 : Option Nat) (x4 : Int32), k23 S x0 x1 x2 x3 x4 = some (r, S1) → G K 7 S 23 [(0, vR x0), (1, vR x1), (2, vR x2), (3, vR x3), (4, vI x4)] []) : ∀ (S : St) (x0 : Option Nat) (x1 : Option Nat) (x2 : Option Nat) (x3 : Option Nat) (x4 : Int32), n_L_law_b528 k23 S x0 x1 x2 x3 x4 = some (r, S1) → G K 7 S 528 [(0, vR x0), (1, vR x1), (2, vR x2), (3, vR x3), (4, vI x4)] [] := by
  intro S x0 x1 x2 x3 x4 hd
  unfold n_L_law_b528 at hd
  refine g_aload_n C dL_law_528 rfl 1 rfl ?_
  refine g_aload_n C dL_law_529 rfl 0 rfl ?_
  refine g_iload C dL_law_530 4 rfl ?_
  refine g_iconst (v := 1) C dL_law_532 (by decide) ?_
  refine g_iadd C dL_law_533 ?_
  obtain ⟨v1, hv1, hd⟩ := Option.bind_eq_some_iff.mp hd
  refine g_iald10 C dL_law_534 hv1 ?_
  refine g_aload_n C dL_law_535 rfl 0 rfl ?_
  refine g_iload C dL_law_536 4 rfl ?_
  refine g_iconst (v := 2) C dL_law_538 (by decide) ?_
  refine g_iadd C dL_law_539 ?_
  obtain ⟨v2, hv2, hd⟩ := Option.bind_eq_some_iff.mp hd
  refine g_iald10 C dL_law_540 hv2 ?_
  refine g_if_eq (tgt := 548) C dL_law_541 (by decide) hd (fun hd => ?_) (fun hd => ?_)
  · refine g_iconst (v := 0) C dL_law_548 (by decide) ?_
    refine g_sub [0, 1, 2, 3, 4] rfl ?_
    exact w_L_law_b549 C E Q h23 _ _ _ _ _ _ _ _ _ hd
  · refine g_iconst (v := 1) C dL_law_544 (by decide) ?_
    refine g_goto (tgt := 549) C dL_law_545 (by decide) ?_
    refine g_sub [0, 1, 2, 3, 4] rfl ?_
    exact w_L_law_b549 C E Q h23 _ _ _ _ _ _ _ _ _ hd
theorem w_L_law_b525 {K : KT} {r : Int32} {S1 : St} (C : GC K RX0 cL_law 7 41 []) (E : EH (kΓ K) (kHI K) (kl K)) (Q : GQL K r S1) {k23 : St → Option Nat → Option Nat → Option Nat → Option Nat → Int32 → Option (Int32 × St)} (h23 : ∀ (S : St) (x0 : Option Nat) (x1 : Option Nat) (x2 : Option Nat) (x3 : Option Nat) (x4 : Int32), k23 S x0 x1 x2 x3 x4 = some (r, S1) → G K 7 S 23 [(0, vR x0), (1, vR x1), (2, vR x2), (3, vR x3), (4, vI x4)] []) : ∀ (S : St) (x0 : Option Nat) (x1 : Option Nat) (x2 : Option Nat) (x3 : Option Nat) (x4 : Int32), n_L_law_b525 k23 S x0 x1 x2 x3 x4 = some (r, S1) → G K 7 S 525 [(0, vR x0), (1, vR x1), (2, vR x2), (3, vR x3), (4, vI x4)] [] := by
  intro S x0 x1 x2 x3 x4 hd
  unfold n_L_law_b525 at hd
  refine g_goto (tgt := 1790) C dL_law_525 (by decide) ?_
  refine g_sub [0, 1, 2, 3, 4] rfl ?_
  exact w_L_law_b1790 C E Q h23 _ _ _ _ _ _ hd
theorem w_L_law_b472 {K : KT} {r : Int32} {S1 : St} (C : GC K RX0 cL_law 7 41 []) (E : EH (kΓ K) (kHI K) (kl K)) (Q : GQL K r S1) {k23 : St → Option Nat → Option Nat → Option Nat → Option Nat → Int32 → Option (Int32 × St)} (h23 : ∀ (S : St) (x0 : Option Nat) (x1 : Option Nat) (x2 : Option Nat) (x3 : Option Nat) (x4 : Int32), k23 S x0 x1 x2 x3 x4 = some (r, S1) → G K 7 S 23 [(0, vR x0), (1, vR x1), (2, vR x2), (3, vR x3), (4, vI x4)] []) : ∀ (S : St) (x0 : Option Nat) (x1 : Option Nat) (x2 : Option Nat) (x3 : Option Nat) (x4 : Int32), n_L_law_b472 k23 S x0 x1 x2 x3 x4 = some (r, S1) → G K 7 S 472 [(0, vR x0), (1, vR x1), (2, vR x2), (3, vR x3), (4, vI x4)] [] := by
  intro S x0 x1 x2 x3 x4 hd
  unfold n_L_law_b472 at hd
  refine g_aload_n C dL_law_472 rfl 1 rfl ?_
  refine g_aload_n C dL_law_473 rfl 0 rfl ?_
  refine g_iload C dL_law_474 4 rfl ?_
  refine g_iconst (v := 1) C dL_law_476 (by decide) ?_
  refine g_iadd C dL_law_477 ?_
  obtain ⟨v1, hv1, hd⟩ := Option.bind_eq_some_iff.mp hd
  refine g_iald10 C dL_law_478 hv1 ?_
  refine g_aload_n C dL_law_479 rfl 3 rfl ?_
  obtain ⟨v3, S2, hc, hd⟩ := bn_some hd
  refine g_cSW_v (n := 3) C q1291 q1292 q94 q1293 (by decide +kernel) (by decide) (by decide) dL_law_480 (As := [vR x1, vI v1, vR x3]) (rest := []) rfl rfl (Nat.le_of_ble_eq_true rfl) (m_X0_remove E hc) ?_
  refine g_istore (L' := [(5, vI v3), (0, vR x0), (1, vR x1), (2, vR x2), (3, vR x3), (4, vI x4)]) C dL_law_483 (by decide) rfl ?_
  refine g_aload_n C dL_law_485 rfl 3 rfl ?_
  refine g_aload_n C dL_law_486 rfl 1 rfl ?_
  refine g_iload C dL_law_487 5 rfl ?_
  refine g_iconst (v := 1) C dL_law_489 (by decide) ?_
  refine g_iadd C dL_law_490 ?_
  obtain ⟨v4, hv4, hd⟩ := Option.bind_eq_some_iff.mp hd
  refine g_iald10 C dL_law_491 hv4 ?_
  obtain ⟨hg, hd⟩ := gd_some hd
  obtain ⟨v6, S5, hc, hd⟩ := bn_some hd
  refine g_cV_v (n := 1) C (gk_X3).1 q2171 q2172 q2173 q108 q2174 (by decide +kernel) (by decide) (by decide) dL_law_492 (As := [vI v4]) (rest := []) rfl rfl (Nat.le_of_ble_eq_true rfl) hg (m_X3_remove E hc) ?_
  refine g_istore (L' := [(6, vI v6), (5, vI v3), (0, vR x0), (1, vR x1), (2, vR x2), (3, vR x3), (4, vI x4)]) C dL_law_495 (by decide) rfl ?_
  refine g_aload_n C dL_law_497 rfl 4 rfl ?_
  obtain ⟨hg, hd⟩ := gd_some hd
  obtain ⟨v8, S7, hc, hd⟩ := bn_some hd
  refine g_cV_v (n := 0) C (gk_X3).1 q2108 q2109 q2110 q108 q2111 (by decide +kernel) (by decide) (by decide) dL_law_498 (As := []) (rest := []) rfl rfl (Nat.le_of_ble_eq_true rfl) hg (m_X3_thrown E hc) ?_
  refine g_iload C dL_law_501 1 rfl ?_
  refine g_icmp_eq (tgt := 508) C dL_law_503 (by decide) hd (fun hd => ?_) (fun hd => ?_)
  · refine g_iload C dL_law_508 1 rfl ?_
    refine g_if_ne (tgt := 525) C dL_law_510 (by decide) hd (fun hd => ?_) (fun hd => ?_)
    · refine g_sub [2, 3, 4, 5, 6] rfl ?_
      exact w_L_law_b525 C E Q h23 _ _ _ _ _ _ hd
    · refine g_aload_n C dL_law_513 rfl 5 rfl ?_
      refine g_iconst (v := 0) C dL_law_514 (by decide) ?_
      obtain ⟨v9, hv9, hd⟩ := Option.bind_eq_some_iff.mp hd
      refine g_lald C dL_law_515 hv9 ?_
      refine g_iload C dL_law_516 0 rfl ?_
      refine g_i2l C dL_law_518 ?_
      refine g_lcmp C dL_law_519 ?_
      refine g_if_eq (tgt := 525) C dL_law_520 (by decide) hd (fun hd => ?_) (fun hd => ?_)
      · refine g_sub [2, 3, 4, 5, 6] rfl ?_
        exact w_L_law_b525 C E Q h23 _ _ _ _ _ _ hd
      · refine g_iconst (v := 0) C dL_law_523 (by decide) ?_
        exact g_lret C Q hd dL_law_524
  · refine g_iconst (v := 0) C dL_law_506 (by decide) ?_
    exact g_lret C Q hd dL_law_507
theorem w_L_law_b469 {K : KT} {r : Int32} {S1 : St} (C : GC K RX0 cL_law 7 41 []) (E : EH (kΓ K) (kHI K) (kl K)) (Q : GQL K r S1) {k23 : St → Option Nat → Option Nat → Option Nat → Option Nat → Int32 → Option (Int32 × St)} (h23 : ∀ (S : St) (x0 : Option Nat) (x1 : Option Nat) (x2 : Option Nat) (x3 : Option Nat) (x4 : Int32), k23 S x0 x1 x2 x3 x4 = some (r, S1) → G K 7 S 23 [(0, vR x0), (1, vR x1), (2, vR x2), (3, vR x3), (4, vI x4)] []) : ∀ (S : St) (x0 : Option Nat) (x1 : Option Nat) (x2 : Option Nat) (x3 : Option Nat) (x4 : Int32), n_L_law_b469 k23 S x0 x1 x2 x3 x4 = some (r, S1) → G K 7 S 469 [(0, vR x0), (1, vR x1), (2, vR x2), (3, vR x3), (4, vI x4)] [] := by
  intro S x0 x1 x2 x3 x4 hd
  unfold n_L_law_b469 at hd
  refine g_goto (tgt := 1790) C dL_law_469 (by decide) ?_
  refine g_sub [0, 1, 2, 3, 4] rfl ?_
  exact w_L_law_b1790 C E Q h23 _ _ _ _ _ _ hd
theorem w_L_law_b390 {K : KT} {r : Int32} {S1 : St} (C : GC K RX0 cL_law 7 41 []) (E : EH (kΓ K) (kHI K) (kl K)) (Q : GQL K r S1) {k23 : St → Option Nat → Option Nat → Option Nat → Option Nat → Int32 → Option (Int32 × St)} (h23 : ∀ (S : St) (x0 : Option Nat) (x1 : Option Nat) (x2 : Option Nat) (x3 : Option Nat) (x4 : Int32), k23 S x0 x1 x2 x3 x4 = some (r, S1) → G K 7 S 23 [(0, vR x0), (1, vR x1), (2, vR x2), (3, vR x3), (4, vI x4)] []) : ∀ (S : St) (x0 : Option Nat) (x1 : Option Nat) (x2 : Option Nat) (x3 : Option Nat) (x4 : Int32), n_L_law_b390 k23 S x0 x1 x2 x3 x4 = some (r, S1) → G K 7 S 390 [(0, vR x0), (1, vR x1), (2, vR x2), (3, vR x3), (4, vI x4)] [] := by
  intro S x0 x1 x2 x3 x4 hd
  unfold n_L_law_b390 at hd
  refine g_aload_n C dL_law_390 rfl 1 rfl ?_
  refine g_aload_n C dL_law_391 rfl 0 rfl ?_
  refine g_iload C dL_law_392 4 rfl ?_
  refine g_iconst (v := 1) C dL_law_394 (by decide) ?_
  refine g_iadd C dL_law_395 ?_
  obtain ⟨v1, hv1, hd⟩ := Option.bind_eq_some_iff.mp hd
  refine g_iald10 C dL_law_396 hv1 ?_
  refine g_aload_n C dL_law_397 rfl 0 rfl ?_
  refine g_iload C dL_law_398 4 rfl ?_
  refine g_iconst (v := 2) C dL_law_400 (by decide) ?_
  refine g_iadd C dL_law_401 ?_
  obtain ⟨v2, hv2, hd⟩ := Option.bind_eq_some_iff.mp hd
  refine g_iald10 C dL_law_402 hv2 ?_
  refine g_aload_n C dL_law_403 rfl 0 rfl ?_
  refine g_iload C dL_law_404 4 rfl ?_
  refine g_iconst (v := 3) C dL_law_406 (by decide) ?_
  refine g_iadd C dL_law_407 ?_
  obtain ⟨v3, hv3, hd⟩ := Option.bind_eq_some_iff.mp hd
  refine g_iald10 C dL_law_408 hv3 ?_
  refine g_i2c C dL_law_409 ?_
  refine g_aload_n C dL_law_410 rfl 3 rfl ?_
  obtain ⟨v5, S4, hc, hd⟩ := bn_some hd
  refine g_cSW_v (n := 5) C q1273 q1274 q94 q1275 (by decide +kernel) (by decide) (by decide) dL_law_411 (As := [vR x1, vI v1, vI v2, vI ((v3.toUInt32 % 65536).toInt32), vR x3]) (rest := []) rfl rfl (Nat.le_of_ble_eq_true rfl) (m_X0_move E hc) ?_
  refine g_istore (L' := [(5, vI v5), (0, vR x0), (1, vR x1), (2, vR x2), (3, vR x3), (4, vI x4)]) C dL_law_414 (by decide) rfl ?_
  refine g_aload_n C dL_law_416 rfl 3 rfl ?_
  refine g_aload_n C dL_law_417 rfl 1 rfl ?_
  refine g_iload C dL_law_418 5 rfl ?_
  refine g_iconst (v := 1) C dL_law_420 (by decide) ?_
  refine g_iadd C dL_law_421 ?_
  obtain ⟨v6, hv6, hd⟩ := Option.bind_eq_some_iff.mp hd
  refine g_iald10 C dL_law_422 hv6 ?_
  refine g_aload_n C dL_law_423 rfl 1 rfl ?_
  refine g_iload C dL_law_424 5 rfl ?_
  refine g_iconst (v := 2) C dL_law_426 (by decide) ?_
  refine g_iadd C dL_law_427 ?_
  obtain ⟨v7, hv7, hd⟩ := Option.bind_eq_some_iff.mp hd
  refine g_iald10 C dL_law_428 hv7 ?_
  refine g_aload_n C dL_law_429 rfl 1 rfl ?_
  refine g_iload C dL_law_430 5 rfl ?_
  refine g_iconst (v := 3) C dL_law_432 (by decide) ?_
  refine g_iadd C dL_law_433 ?_
  obtain ⟨v8, hv8, hd⟩ := Option.bind_eq_some_iff.mp hd
  refine g_iald10 C dL_law_434 hv8 ?_
  refine g_i2c C dL_law_435 ?_
  obtain ⟨hg, hd⟩ := gd_some hd
  obtain ⟨v10, S9, hc, hd⟩ := bn_some hd
  refine g_cV_v (n := 3) C (gk_X3).1 q2159 q2160 q2161 q108 q2162 (by decide +kernel) (by decide) (by decide) dL_law_436 (As := [vI v6, vI v7, vI ((v8.toUInt32 % 65536).toInt32)]) (rest := []) rfl rfl (Nat.le_of_ble_eq_true rfl) hg (m_X3_move E hc) ?_
  refine g_istore (L' := [(6, vI v10), (5, vI v5), (0, vR x0), (1, vR x1), (2, vR x2), (3, vR x3), (4, vI x4)]) C dL_law_439 (by decide) rfl ?_
  refine g_aload_n C dL_law_441 rfl 4 rfl ?_
  obtain ⟨hg, hd⟩ := gd_some hd
  obtain ⟨v12, S11, hc, hd⟩ := bn_some hd
  refine g_cV_v (n := 0) C (gk_X3).1 q2108 q2109 q2110 q108 q2111 (by decide +kernel) (by decide) (by decide) dL_law_442 (As := []) (rest := []) rfl rfl (Nat.le_of_ble_eq_true rfl) hg (m_X3_thrown E hc) ?_
  refine g_iload C dL_law_445 1 rfl ?_
  refine g_icmp_eq (tgt := 452) C dL_law_447 (by decide) hd (fun hd => ?_) (fun hd => ?_)
  · refine g_iload C dL_law_452 1 rfl ?_
    refine g_if_ne (tgt := 469) C dL_law_454 (by decide) hd (fun hd => ?_) (fun hd => ?_)
    · refine g_sub [2, 3, 4, 5, 6] rfl ?_
      exact w_L_law_b469 C E Q h23 _ _ _ _ _ _ hd
    · refine g_aload_n C dL_law_457 rfl 5 rfl ?_
      refine g_iconst (v := 0) C dL_law_458 (by decide) ?_
      obtain ⟨v13, hv13, hd⟩ := Option.bind_eq_some_iff.mp hd
      refine g_lald C dL_law_459 hv13 ?_
      refine g_iload C dL_law_460 0 rfl ?_
      refine g_i2l C dL_law_462 ?_
      refine g_lcmp C dL_law_463 ?_
      refine g_if_eq (tgt := 469) C dL_law_464 (by decide) hd (fun hd => ?_) (fun hd => ?_)
      · refine g_sub [2, 3, 4, 5, 6] rfl ?_
        exact w_L_law_b469 C E Q h23 _ _ _ _ _ _ hd
      · refine g_iconst (v := 0) C dL_law_467 (by decide) ?_
        exact g_lret C Q hd dL_law_468
  · refine g_iconst (v := 0) C dL_law_450 (by decide) ?_
    exact g_lret C Q hd dL_law_451
theorem w_L_law_b387 {K : KT} {r : Int32} {S1 : St} (C : GC K RX0 cL_law 7 41 []) (E : EH (kΓ K) (kHI K) (kl K)) (Q : GQL K r S1) {k23 : St → Option Nat → Option Nat → Option Nat → Option Nat → Int32 → Option (Int32 × St)} (h23 : ∀ (S : St) (x0 : Option Nat) (x1 : Option Nat) (x2 : Option Nat) (x3 : Option Nat) (x4 : Int32), k23 S x0 x1 x2 x3 x4 = some (r, S1) → G K 7 S 23 [(0, vR x0), (1, vR x1), (2, vR x2), (3, vR x3), (4, vI x4)] []) : ∀ (S : St) (x0 : Option Nat) (x1 : Option Nat) (x2 : Option Nat) (x3 : Option Nat) (x4 : Int32), n_L_law_b387 k23 S x0 x1 x2 x3 x4 = some (r, S1) → G K 7 S 387 [(0, vR x0), (1, vR x1), (2, vR x2), (3, vR x3), (4, vI x4)] [] := by
  intro S x0 x1 x2 x3 x4 hd
  unfold n_L_law_b387 at hd
  refine g_goto (tgt := 1790) C dL_law_387 (by decide) ?_
  refine g_sub [0, 1, 2, 3, 4] rfl ?_
  exact w_L_law_b1790 C E Q h23 _ _ _ _ _ _ hd
theorem w_L_law_b334 {K : KT} {r : Int32} {S1 : St} (C : GC K RX0 cL_law 7 41 []) (E : EH (kΓ K) (kHI K) (kl K)) (Q : GQL K r S1) {k23 : St → Option Nat → Option Nat → Option Nat → Option Nat → Int32 → Option (Int32 × St)} (h23 : ∀ (S : St) (x0 : Option Nat) (x1 : Option Nat) (x2 : Option Nat) (x3 : Option Nat) (x4 : Int32), k23 S x0 x1 x2 x3 x4 = some (r, S1) → G K 7 S 23 [(0, vR x0), (1, vR x1), (2, vR x2), (3, vR x3), (4, vI x4)] []) : ∀ (S : St) (x0 : Option Nat) (x1 : Option Nat) (x2 : Option Nat) (x3 : Option Nat) (x4 : Int32), n_L_law_b334 k23 S x0 x1 x2 x3 x4 = some (r, S1) → G K 7 S 334 [(0, vR x0), (1, vR x1), (2, vR x2), (3, vR x3), (4, vI x4)] [] := by
  intro S x0 x1 x2 x3 x4 hd
  unfold n_L_law_b334 at hd
  refine g_aload_n C dL_law_334 rfl 1 rfl ?_
  refine g_aload_n C dL_law_335 rfl 0 rfl ?_
  refine g_iload C dL_law_336 4 rfl ?_
  refine g_iconst (v := 1) C dL_law_338 (by decide) ?_
  refine g_iadd C dL_law_339 ?_
  obtain ⟨v1, hv1, hd⟩ := Option.bind_eq_some_iff.mp hd
  refine g_iald10 C dL_law_340 hv1 ?_
  refine g_aload_n C dL_law_341 rfl 3 rfl ?_
  obtain ⟨v3, S2, hc, hd⟩ := bn_some hd
  refine g_cSW_v (n := 3) C q1254 q1255 q94 q1256 (by decide +kernel) (by decide) (by decide) dL_law_342 (As := [vR x1, vI v1, vR x3]) (rest := []) rfl rfl (Nat.le_of_ble_eq_true rfl) (m_X0_empty E hc) ?_
  refine g_istore (L' := [(5, vI v3), (0, vR x0), (1, vR x1), (2, vR x2), (3, vR x3), (4, vI x4)]) C dL_law_345 (by decide) rfl ?_
  refine g_aload_n C dL_law_347 rfl 3 rfl ?_
  refine g_aload_n C dL_law_348 rfl 1 rfl ?_
  refine g_iload C dL_law_349 5 rfl ?_
  refine g_iconst (v := 1) C dL_law_351 (by decide) ?_
  refine g_iadd C dL_law_352 ?_
  obtain ⟨v4, hv4, hd⟩ := Option.bind_eq_some_iff.mp hd
  refine g_iald10 C dL_law_353 hv4 ?_
  obtain ⟨hg, hd⟩ := gd_some hd
  obtain ⟨v6, S5, hc, hd⟩ := bn_some hd
  refine g_cV_v (n := 1) C (gk_X3).1 q2155 q2156 q2157 q108 q2158 (by decide +kernel) (by decide) (by decide) dL_law_354 (As := [vI v4]) (rest := []) rfl rfl (Nat.le_of_ble_eq_true rfl) hg (m_X3_empty E hc) ?_
  refine g_istore (L' := [(6, vI v6), (5, vI v3), (0, vR x0), (1, vR x1), (2, vR x2), (3, vR x3), (4, vI x4)]) C dL_law_357 (by decide) rfl ?_
  refine g_aload_n C dL_law_359 rfl 4 rfl ?_
  obtain ⟨hg, hd⟩ := gd_some hd
  obtain ⟨v8, S7, hc, hd⟩ := bn_some hd
  refine g_cV_v (n := 0) C (gk_X3).1 q2108 q2109 q2110 q108 q2111 (by decide +kernel) (by decide) (by decide) dL_law_360 (As := []) (rest := []) rfl rfl (Nat.le_of_ble_eq_true rfl) hg (m_X3_thrown E hc) ?_
  refine g_iload C dL_law_363 1 rfl ?_
  refine g_icmp_eq (tgt := 370) C dL_law_365 (by decide) hd (fun hd => ?_) (fun hd => ?_)
  · refine g_iload C dL_law_370 1 rfl ?_
    refine g_if_ne (tgt := 387) C dL_law_372 (by decide) hd (fun hd => ?_) (fun hd => ?_)
    · refine g_sub [2, 3, 4, 5, 6] rfl ?_
      exact w_L_law_b387 C E Q h23 _ _ _ _ _ _ hd
    · refine g_aload_n C dL_law_375 rfl 5 rfl ?_
      refine g_iconst (v := 0) C dL_law_376 (by decide) ?_
      obtain ⟨v9, hv9, hd⟩ := Option.bind_eq_some_iff.mp hd
      refine g_lald C dL_law_377 hv9 ?_
      refine g_iload C dL_law_378 0 rfl ?_
      refine g_i2l C dL_law_380 ?_
      refine g_lcmp C dL_law_381 ?_
      refine g_if_eq (tgt := 387) C dL_law_382 (by decide) hd (fun hd => ?_) (fun hd => ?_)
      · refine g_sub [2, 3, 4, 5, 6] rfl ?_
        exact w_L_law_b387 C E Q h23 _ _ _ _ _ _ hd
      · refine g_iconst (v := 0) C dL_law_385 (by decide) ?_
        exact g_lret C Q hd dL_law_386
  · refine g_iconst (v := 0) C dL_law_368 (by decide) ?_
    exact g_lret C Q hd dL_law_369
theorem w_L_law_b331 {K : KT} {r : Int32} {S1 : St} (C : GC K RX0 cL_law 7 41 []) (E : EH (kΓ K) (kHI K) (kl K)) (Q : GQL K r S1) {k23 : St → Option Nat → Option Nat → Option Nat → Option Nat → Int32 → Option (Int32 × St)} (h23 : ∀ (S : St) (x0 : Option Nat) (x1 : Option Nat) (x2 : Option Nat) (x3 : Option Nat) (x4 : Int32), k23 S x0 x1 x2 x3 x4 = some (r, S1) → G K 7 S 23 [(0, vR x0), (1, vR x1), (2, vR x2), (3, vR x3), (4, vI x4)] []) : ∀ (S : St) (x0 : Option Nat) (x1 : Option Nat) (x2 : Option Nat) (x3 : Option Nat) (x4 : Int32), n_L_law_b331 k23 S x0 x1 x2 x3 x4 = some (r, S1) → G K 7 S 331 [(0, vR x0), (1, vR x1), (2, vR x2), (3, vR x3), (4, vI x4)] [] := by
  intro S x0 x1 x2 x3 x4 hd
  unfold n_L_law_b331 at hd
  refine g_goto (tgt := 1790) C dL_law_331 (by decide) ?_
  refine g_sub [0, 1, 2, 3, 4] rfl ?_
  exact w_L_law_b1790 C E Q h23 _ _ _ _ _ _ hd
theorem w_L_law_b266 {K : KT} {r : Int32} {S1 : St} (C : GC K RX0 cL_law 7 41 []) (E : EH (kΓ K) (kHI K) (kl K)) (Q : GQL K r S1) {k23 : St → Option Nat → Option Nat → Option Nat → Option Nat → Int32 → Option (Int32 × St)} (h23 : ∀ (S : St) (x0 : Option Nat) (x1 : Option Nat) (x2 : Option Nat) (x3 : Option Nat) (x4 : Int32), k23 S x0 x1 x2 x3 x4 = some (r, S1) → G K 7 S 23 [(0, vR x0), (1, vR x1), (2, vR x2), (3, vR x3), (4, vI x4)] []) : ∀ (S : St) (x0 : Option Nat) (x1 : Option Nat) (x2 : Option Nat) (x3 : Option Nat) (x4 : Int32), n_L_law_b266 k23 S x0 x1 x2 x3 x4 = some (r, S1) → G K 7 S 266 [(0, vR x0), (1, vR x1), (2, vR x2), (3, vR x3), (4, vI x4)] [] := by
  intro S x0 x1 x2 x3 x4 hd
  unfold n_L_law_b266 at hd
  refine g_aload_n C dL_law_266 rfl 1 rfl ?_
  refine g_aload_n C dL_law_267 rfl 0 rfl ?_
  refine g_iload C dL_law_268 4 rfl ?_
  refine g_iconst (v := 1) C dL_law_270 (by decide) ?_
  refine g_iadd C dL_law_271 ?_
  obtain ⟨v1, hv1, hd⟩ := Option.bind_eq_some_iff.mp hd
  refine g_iald10 C dL_law_272 hv1 ?_
  refine g_aload_n C dL_law_273 rfl 0 rfl ?_
  refine g_iload C dL_law_274 4 rfl ?_
  refine g_iconst (v := 2) C dL_law_276 (by decide) ?_
  refine g_iadd C dL_law_277 ?_
  obtain ⟨v2, hv2, hd⟩ := Option.bind_eq_some_iff.mp hd
  refine g_iald10 C dL_law_278 hv2 ?_
  refine g_aload_n C dL_law_279 rfl 3 rfl ?_
  obtain ⟨v4, S3, hc, hd⟩ := bn_some hd
  refine g_cSW_v (n := 4) C q1214 q1215 q94 q1216 (by decide +kernel) (by decide) (by decide) dL_law_280 (As := [vR x1, vI v1, vI v2, vR x3]) (rest := []) rfl rfl (Nat.le_of_ble_eq_true rfl) (m_X0_write E hc) ?_
  refine g_istore (L' := [(5, vI v4), (0, vR x0), (1, vR x1), (2, vR x2), (3, vR x3), (4, vI x4)]) C dL_law_283 (by decide) rfl ?_
  refine g_aload_n C dL_law_285 rfl 3 rfl ?_
  refine g_aload_n C dL_law_286 rfl 1 rfl ?_
  refine g_iload C dL_law_287 5 rfl ?_
  refine g_iconst (v := 1) C dL_law_289 (by decide) ?_
  refine g_iadd C dL_law_290 ?_
  obtain ⟨v5, hv5, hd⟩ := Option.bind_eq_some_iff.mp hd
  refine g_iald10 C dL_law_291 hv5 ?_
  refine g_aload_n C dL_law_292 rfl 1 rfl ?_
  refine g_iload C dL_law_293 5 rfl ?_
  refine g_iconst (v := 2) C dL_law_295 (by decide) ?_
  refine g_iadd C dL_law_296 ?_
  obtain ⟨v6, hv6, hd⟩ := Option.bind_eq_some_iff.mp hd
  refine g_iald10 C dL_law_297 hv6 ?_
  obtain ⟨hg, hd⟩ := gd_some hd
  obtain ⟨v8, S7, hc, hd⟩ := bn_some hd
  refine g_cV_v (n := 2) C (gk_X3).1 q2147 q2148 q2149 q108 q2150 (by decide +kernel) (by decide) (by decide) dL_law_298 (As := [vI v5, vI v6]) (rest := []) rfl rfl (Nat.le_of_ble_eq_true rfl) hg (m_X3_write E hc) ?_
  refine g_istore (L' := [(6, vI v8), (5, vI v4), (0, vR x0), (1, vR x1), (2, vR x2), (3, vR x3), (4, vI x4)]) C dL_law_301 (by decide) rfl ?_
  refine g_aload_n C dL_law_303 rfl 4 rfl ?_
  obtain ⟨hg, hd⟩ := gd_some hd
  obtain ⟨v10, S9, hc, hd⟩ := bn_some hd
  refine g_cV_v (n := 0) C (gk_X3).1 q2108 q2109 q2110 q108 q2111 (by decide +kernel) (by decide) (by decide) dL_law_304 (As := []) (rest := []) rfl rfl (Nat.le_of_ble_eq_true rfl) hg (m_X3_thrown E hc) ?_
  refine g_iload C dL_law_307 1 rfl ?_
  refine g_icmp_eq (tgt := 314) C dL_law_309 (by decide) hd (fun hd => ?_) (fun hd => ?_)
  · refine g_iload C dL_law_314 1 rfl ?_
    refine g_if_ne (tgt := 331) C dL_law_316 (by decide) hd (fun hd => ?_) (fun hd => ?_)
    · refine g_sub [2, 3, 4, 5, 6] rfl ?_
      exact w_L_law_b331 C E Q h23 _ _ _ _ _ _ hd
    · refine g_aload_n C dL_law_319 rfl 5 rfl ?_
      refine g_iconst (v := 0) C dL_law_320 (by decide) ?_
      obtain ⟨v11, hv11, hd⟩ := Option.bind_eq_some_iff.mp hd
      refine g_lald C dL_law_321 hv11 ?_
      refine g_iload C dL_law_322 0 rfl ?_
      refine g_i2l C dL_law_324 ?_
      refine g_lcmp C dL_law_325 ?_
      refine g_if_eq (tgt := 331) C dL_law_326 (by decide) hd (fun hd => ?_) (fun hd => ?_)
      · refine g_sub [2, 3, 4, 5, 6] rfl ?_
        exact w_L_law_b331 C E Q h23 _ _ _ _ _ _ hd
      · refine g_iconst (v := 0) C dL_law_329 (by decide) ?_
        exact g_lret C Q hd dL_law_330
  · refine g_iconst (v := 0) C dL_law_312 (by decide) ?_
    exact g_lret C Q hd dL_law_313
theorem w_L_law_b263 {K : KT} {r : Int32} {S1 : St} (C : GC K RX0 cL_law 7 41 []) (E : EH (kΓ K) (kHI K) (kl K)) (Q : GQL K r S1) {k23 : St → Option Nat → Option Nat → Option Nat → Option Nat → Int32 → Option (Int32 × St)} (h23 : ∀ (S : St) (x0 : Option Nat) (x1 : Option Nat) (x2 : Option Nat) (x3 : Option Nat) (x4 : Int32), k23 S x0 x1 x2 x3 x4 = some (r, S1) → G K 7 S 23 [(0, vR x0), (1, vR x1), (2, vR x2), (3, vR x3), (4, vI x4)] []) : ∀ (S : St) (x0 : Option Nat) (x1 : Option Nat) (x2 : Option Nat) (x3 : Option Nat) (x4 : Int32), n_L_law_b263 k23 S x0 x1 x2 x3 x4 = some (r, S1) → G K 7 S 263 [(0, vR x0), (1, vR x1), (2, vR x2), (3, vR x3), (4, vI x4)] [] := by
  intro S x0 x1 x2 x3 x4 hd
  unfold n_L_law_b263 at hd
  refine g_goto (tgt := 1790) C dL_law_263 (by decide) ?_
  refine g_sub [0, 1, 2, 3, 4] rfl ?_
  exact w_L_law_b1790 C E Q h23 _ _ _ _ _ _ hd
theorem w_L_law_b230 {K : KT} {r : Int32} {S1 : St} (C : GC K RX0 cL_law 7 41 []) (E : EH (kΓ K) (kHI K) (kl K)) (Q : GQL K r S1) {k23 : St → Option Nat → Option Nat → Option Nat → Option Nat → Int32 → Option (Int32 × St)} (h23 : ∀ (S : St) (x0 : Option Nat) (x1 : Option Nat) (x2 : Option Nat) (x3 : Option Nat) (x4 : Int32), k23 S x0 x1 x2 x3 x4 = some (r, S1) → G K 7 S 23 [(0, vR x0), (1, vR x1), (2, vR x2), (3, vR x3), (4, vI x4)] []) : ∀ (S : St) (x0 : Option Nat) (x1 : Option Nat) (x2 : Option Nat) (x3 : Option Nat) (x4 : Int32) (x5 : Int32) (y0 : Int32) (y1 : Int32) (y2 : Int32) (y3 : Option Nat), n_L_law_b230 k23 S x0 x1 x2 x3 x4 x5 y0 y1 y2 y3 = some (r, S1) → G K 7 S 230 [(0, vR x0), (1, vR x1), (2, vR x2), (3, vR x3), (4, vI x4), (5, vI x5)] [vI y0, vI y1, vI y2, vR y3] := by
  intro S x0 x1 x2 x3 x4 x5 y0 y1 y2 y3 hd
  unfold n_L_law_b230 at hd
  obtain ⟨hg, hd⟩ := gd_some hd
  obtain ⟨v2, S1, hc, hd⟩ := bn_some hd
  refine g_cV_v (n := 3) C (gk_X3).1 q2112 q2113 q2114 q108 q2115 (by decide +kernel) (by decide) (by decide) dL_law_230 (As := [vI y2, vI y1, vI y0]) (rest := []) rfl rfl (Nat.le_of_ble_eq_true rfl) hg (m_X3_make E hc) ?_
  refine g_istore (L' := [(6, vI v2), (0, vR x0), (1, vR x1), (2, vR x2), (3, vR x3), (4, vI x4), (5, vI x5)]) C dL_law_233 (by decide) rfl ?_
  refine g_aload_n C dL_law_235 rfl 3 rfl ?_
  obtain ⟨hg, hd⟩ := gd_some hd
  obtain ⟨v4, S3, hc, hd⟩ := bn_some hd
  refine g_cV_v (n := 0) C (gk_X3).1 q2108 q2109 q2110 q108 q2111 (by decide +kernel) (by decide) (by decide) dL_law_236 (As := []) (rest := []) rfl rfl (Nat.le_of_ble_eq_true rfl) hg (m_X3_thrown E hc) ?_
  refine g_iload C dL_law_239 6 rfl ?_
  refine g_icmp_eq (tgt := 246) C dL_law_241 (by decide) hd (fun hd => ?_) (fun hd => ?_)
  · refine g_iload C dL_law_246 6 rfl ?_
    refine g_if_ne (tgt := 263) C dL_law_248 (by decide) hd (fun hd => ?_) (fun hd => ?_)
    · refine g_sub [1, 2, 3, 4, 5] rfl ?_
      exact w_L_law_b263 C E Q h23 _ _ _ _ _ _ hd
    · refine g_aload_n C dL_law_251 rfl 4 rfl ?_
      refine g_iconst (v := 0) C dL_law_252 (by decide) ?_
      obtain ⟨v5, hv5, hd⟩ := Option.bind_eq_some_iff.mp hd
      refine g_lald C dL_law_253 hv5 ?_
      refine g_iload C dL_law_254 0 rfl ?_
      refine g_i2l C dL_law_256 ?_
      refine g_lcmp C dL_law_257 ?_
      refine g_if_eq (tgt := 263) C dL_law_258 (by decide) hd (fun hd => ?_) (fun hd => ?_)
      · refine g_sub [1, 2, 3, 4, 5] rfl ?_
        exact w_L_law_b263 C E Q h23 _ _ _ _ _ _ hd
      · refine g_iconst (v := 0) C dL_law_261 (by decide) ?_
        exact g_lret C Q hd dL_law_262
  · refine g_iconst (v := 0) C dL_law_244 (by decide) ?_
    exact g_lret C Q hd dL_law_245
theorem w_L_law_b196 {K : KT} {r : Int32} {S1 : St} (C : GC K RX0 cL_law 7 41 []) (E : EH (kΓ K) (kHI K) (kl K)) (Q : GQL K r S1) {k23 : St → Option Nat → Option Nat → Option Nat → Option Nat → Int32 → Option (Int32 × St)} (h23 : ∀ (S : St) (x0 : Option Nat) (x1 : Option Nat) (x2 : Option Nat) (x3 : Option Nat) (x4 : Int32), k23 S x0 x1 x2 x3 x4 = some (r, S1) → G K 7 S 23 [(0, vR x0), (1, vR x1), (2, vR x2), (3, vR x3), (4, vI x4)] []) : ∀ (S : St) (x0 : Option Nat) (x1 : Option Nat) (x2 : Option Nat) (x3 : Option Nat) (x4 : Int32) (y0 : Int32) (y1 : Int32) (y2 : Int32) (y3 : Option Nat), n_L_law_b196 k23 S x0 x1 x2 x3 x4 y0 y1 y2 y3 = some (r, S1) → G K 7 S 196 [(0, vR x0), (1, vR x1), (2, vR x2), (3, vR x3), (4, vI x4)] [vI y0, vI y1, vI y2, vR y3] := by
  intro S x0 x1 x2 x3 x4 y0 y1 y2 y3 hd
  unfold n_L_law_b196 at hd
  refine g_aload_n C dL_law_196 rfl 3 rfl ?_
  obtain ⟨v2, S1, hc, hd⟩ := bn_some hd
  refine g_cSW_v (n := 5) C q1097 q1098 q94 q1099 (by decide +kernel) (by decide) (by decide) dL_law_197 (As := [vR y3, vI y2, vI y1, vI y0, vR x3]) (rest := []) rfl rfl (Nat.le_of_ble_eq_true rfl) (m_X0_make E hc) ?_
  refine g_istore (L' := [(5, vI v2), (0, vR x0), (1, vR x1), (2, vR x2), (3, vR x3), (4, vI x4)]) C dL_law_200 (by decide) rfl ?_
  refine g_aload_n C dL_law_202 rfl 3 rfl ?_
  refine g_aload_n C dL_law_203 rfl 1 rfl ?_
  refine g_iload C dL_law_204 5 rfl ?_
  refine g_iconst (v := 1) C dL_law_206 (by decide) ?_
  refine g_iadd C dL_law_207 ?_
  obtain ⟨v3, hv3, hd⟩ := Option.bind_eq_some_iff.mp hd
  refine g_iald10 C dL_law_208 hv3 ?_
  refine g_aload_n C dL_law_209 rfl 1 rfl ?_
  refine g_iload C dL_law_210 5 rfl ?_
  refine g_iconst (v := 2) C dL_law_212 (by decide) ?_
  refine g_iadd C dL_law_213 ?_
  obtain ⟨v4, hv4, hd⟩ := Option.bind_eq_some_iff.mp hd
  refine g_iald10 C dL_law_214 hv4 ?_
  refine g_i2c C dL_law_215 ?_
  refine g_aload_n C dL_law_216 rfl 1 rfl ?_
  refine g_iload C dL_law_217 5 rfl ?_
  refine g_iconst (v := 3) C dL_law_219 (by decide) ?_
  refine g_iadd C dL_law_220 ?_
  obtain ⟨v5, hv5, hd⟩ := Option.bind_eq_some_iff.mp hd
  refine g_iald10 C dL_law_221 hv5 ?_
  refine g_if_eq (tgt := 229) C dL_law_222 (by decide) hd (fun hd => ?_) (fun hd => ?_)
  · refine g_iconst (v := 0) C dL_law_229 (by decide) ?_
    refine g_sub [1, 2, 3, 4, 5, 0] rfl ?_
    exact w_L_law_b230 C E Q h23 _ _ _ _ _ _ _ _ _ _ _ hd
  · refine g_iconst (v := 1) C dL_law_225 (by decide) ?_
    refine g_goto (tgt := 230) C dL_law_226 (by decide) ?_
    refine g_sub [1, 2, 3, 4, 5, 0] rfl ?_
    exact w_L_law_b230 C E Q h23 _ _ _ _ _ _ _ _ _ _ _ hd
theorem w_L_law_b168 {K : KT} {r : Int32} {S1 : St} (C : GC K RX0 cL_law 7 41 []) (E : EH (kΓ K) (kHI K) (kl K)) (Q : GQL K r S1) {k23 : St → Option Nat → Option Nat → Option Nat → Option Nat → Int32 → Option (Int32 × St)} (h23 : ∀ (S : St) (x0 : Option Nat) (x1 : Option Nat) (x2 : Option Nat) (x3 : Option Nat) (x4 : Int32), k23 S x0 x1 x2 x3 x4 = some (r, S1) → G K 7 S 23 [(0, vR x0), (1, vR x1), (2, vR x2), (3, vR x3), (4, vI x4)] []) : ∀ (S : St) (x0 : Option Nat) (x1 : Option Nat) (x2 : Option Nat) (x3 : Option Nat) (x4 : Int32), n_L_law_b168 k23 S x0 x1 x2 x3 x4 = some (r, S1) → G K 7 S 168 [(0, vR x0), (1, vR x1), (2, vR x2), (3, vR x3), (4, vI x4)] [] := by
  intro S x0 x1 x2 x3 x4 hd
  unfold n_L_law_b168 at hd
  refine g_aload_n C dL_law_168 rfl 1 rfl ?_
  refine g_aload_n C dL_law_169 rfl 0 rfl ?_
  refine g_iload C dL_law_170 4 rfl ?_
  refine g_iconst (v := 1) C dL_law_172 (by decide) ?_
  refine g_iadd C dL_law_173 ?_
  obtain ⟨v1, hv1, hd⟩ := Option.bind_eq_some_iff.mp hd
  refine g_iald10 C dL_law_174 hv1 ?_
  refine g_aload_n C dL_law_175 rfl 0 rfl ?_
  refine g_iload C dL_law_176 4 rfl ?_
  refine g_iconst (v := 2) C dL_law_178 (by decide) ?_
  refine g_iadd C dL_law_179 ?_
  obtain ⟨v2, hv2, hd⟩ := Option.bind_eq_some_iff.mp hd
  refine g_iald10 C dL_law_180 hv2 ?_
  refine g_i2c C dL_law_181 ?_
  refine g_aload_n C dL_law_182 rfl 0 rfl ?_
  refine g_iload C dL_law_183 4 rfl ?_
  refine g_iconst (v := 3) C dL_law_185 (by decide) ?_
  refine g_iadd C dL_law_186 ?_
  obtain ⟨v3, hv3, hd⟩ := Option.bind_eq_some_iff.mp hd
  refine g_iald10 C dL_law_187 hv3 ?_
  refine g_if_eq (tgt := 195) C dL_law_188 (by decide) hd (fun hd => ?_) (fun hd => ?_)
  · refine g_iconst (v := 0) C dL_law_195 (by decide) ?_
    refine g_sub [0, 1, 2, 3, 4] rfl ?_
    exact w_L_law_b196 C E Q h23 _ _ _ _ _ _ _ _ _ _ hd
  · refine g_iconst (v := 1) C dL_law_191 (by decide) ?_
    refine g_goto (tgt := 196) C dL_law_192 (by decide) ?_
    refine g_sub [0, 1, 2, 3, 4] rfl ?_
    exact w_L_law_b196 C E Q h23 _ _ _ _ _ _ _ _ _ _ hd
theorem w_L_law_b39 {K : KT} {r : Int32} {S1 : St} (C : GC K RX0 cL_law 7 41 []) (E : EH (kΓ K) (kHI K) (kl K)) (Q : GQL K r S1) {k23 : St → Option Nat → Option Nat → Option Nat → Option Nat → Int32 → Option (Int32 × St)} (h23 : ∀ (S : St) (x0 : Option Nat) (x1 : Option Nat) (x2 : Option Nat) (x3 : Option Nat) (x4 : Int32), k23 S x0 x1 x2 x3 x4 = some (r, S1) → G K 7 S 23 [(0, vR x0), (1, vR x1), (2, vR x2), (3, vR x3), (4, vI x4)] []) : ∀ (S : St) (x0 : Option Nat) (x1 : Option Nat) (x2 : Option Nat) (x3 : Option Nat) (x4 : Int32) (y0 : Int32), n_L_law_b39 k23 S x0 x1 x2 x3 x4 y0 = some (r, S1) → G K 7 S 39 [(0, vR x0), (1, vR x1), (2, vR x2), (3, vR x3), (4, vI x4)] [vI y0] := by
  intro S x0 x1 x2 x3 x4 y0 hd
  unfold n_L_law_b39 at hd
  by_cases e0 : y0 = (0 : Int32)
  · rw [if_pos e0] at hd
    refine g_tabIn C dL_law_39 e0 (off := 129) (tgt := 168) (by decide) (by decide) rfl (by decide) ?_
    refine g_sub [0, 1, 2, 3, 4] rfl ?_
    exact w_L_law_b168 C E Q h23 _ _ _ _ _ _ hd
  rw [if_neg e0] at hd
  by_cases e1 : y0 = (1 : Int32)
  · rw [if_pos e1] at hd
    refine g_tabIn C dL_law_39 e1 (off := 227) (tgt := 266) (by decide) (by decide) rfl (by decide) ?_
    refine g_sub [0, 1, 2, 3, 4] rfl ?_
    exact w_L_law_b266 C E Q h23 _ _ _ _ _ _ hd
  rw [if_neg e1] at hd
  by_cases e2 : y0 = (2 : Int32)
  · rw [if_pos e2] at hd
    refine g_tabIn C dL_law_39 e2 (off := 295) (tgt := 334) (by decide) (by decide) rfl (by decide) ?_
    refine g_sub [0, 1, 2, 3, 4] rfl ?_
    exact w_L_law_b334 C E Q h23 _ _ _ _ _ _ hd
  rw [if_neg e2] at hd
  by_cases e3 : y0 = (3 : Int32)
  · rw [if_pos e3] at hd
    refine g_tabIn C dL_law_39 e3 (off := 351) (tgt := 390) (by decide) (by decide) rfl (by decide) ?_
    refine g_sub [0, 1, 2, 3, 4] rfl ?_
    exact w_L_law_b390 C E Q h23 _ _ _ _ _ _ hd
  rw [if_neg e3] at hd
  by_cases e4 : y0 = (4 : Int32)
  · rw [if_pos e4] at hd
    refine g_tabIn C dL_law_39 e4 (off := 433) (tgt := 472) (by decide) (by decide) rfl (by decide) ?_
    refine g_sub [0, 1, 2, 3, 4] rfl ?_
    exact w_L_law_b472 C E Q h23 _ _ _ _ _ _ hd
  rw [if_neg e4] at hd
  by_cases e5 : y0 = (5 : Int32)
  · rw [if_pos e5] at hd
    refine g_tabIn C dL_law_39 e5 (off := 489) (tgt := 528) (by decide) (by decide) rfl (by decide) ?_
    refine g_sub [0, 1, 2, 3, 4] rfl ?_
    exact w_L_law_b528 C E Q h23 _ _ _ _ _ _ hd
  rw [if_neg e5] at hd
  by_cases e6 : y0 = (6 : Int32)
  · rw [if_pos e6] at hd
    refine g_tabIn C dL_law_39 e6 (off := 580) (tgt := 619) (by decide) (by decide) rfl (by decide) ?_
    refine g_sub [0, 1, 2, 3, 4] rfl ?_
    exact w_L_law_b619 C E Q h23 _ _ _ _ _ _ hd
  rw [if_neg e6] at hd
  by_cases e7 : y0 = (7 : Int32)
  · rw [if_pos e7] at hd
    refine g_tabIn C dL_law_39 e7 (off := 648) (tgt := 687) (by decide) (by decide) rfl (by decide) ?_
    refine g_sub [0, 1, 2, 3, 4] rfl ?_
    exact w_L_law_b687 C E Q h23 _ _ _ _ _ _ hd
  rw [if_neg e7] at hd
  by_cases e8 : y0 = (8 : Int32)
  · rw [if_pos e8] at hd
    refine g_tabIn C dL_law_39 e8 (off := 723) (tgt := 762) (by decide) (by decide) rfl (by decide) ?_
    refine g_sub [0, 1, 2, 3, 4] rfl ?_
    exact w_L_law_b762 C E Q h23 _ _ _ _ _ _ hd
  rw [if_neg e8] at hd
  by_cases e9 : y0 = (9 : Int32)
  · rw [if_pos e9] at hd
    refine g_tabIn C dL_law_39 e9 (off := 736) (tgt := 775) (by decide) (by decide) rfl (by decide) ?_
    refine g_sub [0, 1, 2, 3, 4] rfl ?_
    exact w_L_law_b775 C E Q h23 _ _ _ _ _ _ hd
  rw [if_neg e9] at hd
  by_cases e10 : y0 = (10 : Int32)
  · rw [if_pos e10] at hd
    refine g_tabIn C dL_law_39 e10 (off := 792) (tgt := 831) (by decide) (by decide) rfl (by decide) ?_
    refine g_sub [0, 1, 2, 3, 4] rfl ?_
    exact w_L_law_b831 C E Q h23 _ _ _ _ _ _ hd
  rw [if_neg e10] at hd
  by_cases e11 : y0 = (11 : Int32)
  · rw [if_pos e11] at hd
    refine g_tabIn C dL_law_39 e11 (off := 848) (tgt := 887) (by decide) (by decide) rfl (by decide) ?_
    refine g_sub [0, 1, 2, 3, 4] rfl ?_
    exact w_L_law_b887 C E Q h23 _ _ _ _ _ _ hd
  rw [if_neg e11] at hd
  by_cases e12 : y0 = (12 : Int32)
  · rw [if_pos e12] at hd
    refine g_tabIn C dL_law_39 e12 (off := 904) (tgt := 943) (by decide) (by decide) rfl (by decide) ?_
    refine g_sub [0, 1, 2, 3, 4] rfl ?_
    exact w_L_law_b943 C E Q h23 _ _ _ _ _ _ hd
  rw [if_neg e12] at hd
  by_cases e13 : y0 = (13 : Int32)
  · rw [if_pos e13] at hd
    refine g_tabIn C dL_law_39 e13 (off := 972) (tgt := 1011) (by decide) (by decide) rfl (by decide) ?_
    refine g_sub [0, 1, 2, 3, 4] rfl ?_
    exact w_L_law_b1011 C E Q h23 _ _ _ _ _ _ hd
  rw [if_neg e13] at hd
  by_cases e14 : y0 = (14 : Int32)
  · rw [if_pos e14] at hd
    refine g_tabIn C dL_law_39 e14 (off := 1028) (tgt := 1067) (by decide) (by decide) rfl (by decide) ?_
    refine g_sub [0, 1, 2, 3, 4] rfl ?_
    exact w_L_law_b1067 C E Q h23 _ _ _ _ _ _ hd
  rw [if_neg e14] at hd
  by_cases e15 : y0 = (15 : Int32)
  · rw [if_pos e15] at hd
    refine g_tabIn C dL_law_39 e15 (off := 1069) (tgt := 1108) (by decide) (by decide) rfl (by decide) ?_
    refine g_sub [0, 1, 2, 3, 4] rfl ?_
    exact w_L_law_b1108 C E Q h23 _ _ _ _ _ _ hd
  rw [if_neg e15] at hd
  by_cases e16 : y0 = (16 : Int32)
  · rw [if_pos e16] at hd
    refine g_tabIn C dL_law_39 e16 (off := 1137) (tgt := 1176) (by decide) (by decide) rfl (by decide) ?_
    refine g_sub [0, 1, 2, 3, 4] rfl ?_
    exact w_L_law_b1176 C E Q h23 _ _ _ _ _ _ hd
  rw [if_neg e16] at hd
  by_cases e17 : y0 = (17 : Int32)
  · rw [if_pos e17] at hd
    refine g_tabIn C dL_law_39 e17 (off := 1193) (tgt := 1232) (by decide) (by decide) rfl (by decide) ?_
    refine g_sub [0, 1, 2, 3, 4] rfl ?_
    exact w_L_law_b1232 C E Q h23 _ _ _ _ _ _ hd
  rw [if_neg e17] at hd
  by_cases e18 : y0 = (18 : Int32)
  · rw [if_pos e18] at hd
    refine g_tabIn C dL_law_39 e18 (off := 1249) (tgt := 1288) (by decide) (by decide) rfl (by decide) ?_
    refine g_sub [0, 1, 2, 3, 4] rfl ?_
    exact w_L_law_b1288 C E Q h23 _ _ _ _ _ _ hd
  rw [if_neg e18] at hd
  by_cases e19 : y0 = (19 : Int32)
  · rw [if_pos e19] at hd
    refine g_tabIn C dL_law_39 e19 (off := 1262) (tgt := 1301) (by decide) (by decide) rfl (by decide) ?_
    refine g_sub [0, 1, 2, 3, 4] rfl ?_
    exact w_L_law_b1301 C E Q h23 _ _ _ _ _ _ hd
  rw [if_neg e19] at hd
  by_cases e20 : y0 = (20 : Int32)
  · rw [if_pos e20] at hd
    refine g_tabIn C dL_law_39 e20 (off := 1275) (tgt := 1314) (by decide) (by decide) rfl (by decide) ?_
    refine g_sub [0, 1, 2, 3, 4] rfl ?_
    exact w_L_law_b1314 C E Q h23 _ _ _ _ _ _ hd
  rw [if_neg e20] at hd
  by_cases e21 : y0 = (21 : Int32)
  · rw [if_pos e21] at hd
    refine g_tabIn C dL_law_39 e21 (off := 1288) (tgt := 1327) (by decide) (by decide) rfl (by decide) ?_
    refine g_sub [0, 1, 2, 3, 4] rfl ?_
    exact w_L_law_b1327 C E Q h23 _ _ _ _ _ _ hd
  rw [if_neg e21] at hd
  by_cases e22 : y0 = (22 : Int32)
  · rw [if_pos e22] at hd
    refine g_tabIn C dL_law_39 e22 (off := 1344) (tgt := 1383) (by decide) (by decide) rfl (by decide) ?_
    refine g_sub [0, 1, 2, 3, 4] rfl ?_
    exact w_L_law_b1383 C E Q h23 _ _ _ _ _ _ hd
  rw [if_neg e22] at hd
  by_cases e23 : y0 = (23 : Int32)
  · rw [if_pos e23] at hd
    refine g_tabIn C dL_law_39 e23 (off := 1357) (tgt := 1396) (by decide) (by decide) rfl (by decide) ?_
    refine g_sub [0, 1, 2, 3, 4] rfl ?_
    exact w_L_law_b1396 C E Q h23 _ _ _ _ _ _ hd
  rw [if_neg e23] at hd
  by_cases e24 : y0 = (24 : Int32)
  · rw [if_pos e24] at hd
    refine g_tabIn C dL_law_39 e24 (off := 1370) (tgt := 1409) (by decide) (by decide) rfl (by decide) ?_
    refine g_sub [0, 1, 2, 3, 4] rfl ?_
    exact w_L_law_b1409 C E Q h23 _ _ _ _ _ _ hd
  rw [if_neg e24] at hd
  by_cases e25 : y0 = (25 : Int32)
  · rw [if_pos e25] at hd
    refine g_tabIn C dL_law_39 e25 (off := 1383) (tgt := 1422) (by decide) (by decide) rfl (by decide) ?_
    refine g_sub [0, 1, 2, 3, 4] rfl ?_
    exact w_L_law_b1422 C E Q h23 _ _ _ _ _ _ hd
  rw [if_neg e25] at hd
  by_cases e26 : y0 = (26 : Int32)
  · rw [if_pos e26] at hd
    refine g_tabIn C dL_law_39 e26 (off := 1475) (tgt := 1514) (by decide) (by decide) rfl (by decide) ?_
    refine g_sub [0, 1, 2, 3, 4] rfl ?_
    exact w_L_law_b1514 C E Q h23 _ _ _ _ _ _ hd
  rw [if_neg e26] at hd
  by_cases e27 : y0 = (27 : Int32)
  · rw [if_pos e27] at hd
    refine g_tabIn C dL_law_39 e27 (off := 1567) (tgt := 1606) (by decide) (by decide) rfl (by decide) ?_
    refine g_sub [0, 1, 2, 3, 4] rfl ?_
    exact w_L_law_b1606 C E Q h23 _ _ _ _ _ _ hd
  rw [if_neg e27] at hd
  by_cases e28 : y0 = (28 : Int32)
  · rw [if_pos e28] at hd
    refine g_tabIn C dL_law_39 e28 (off := 1659) (tgt := 1698) (by decide) (by decide) rfl (by decide) ?_
    refine g_sub [0, 1, 2, 3, 4] rfl ?_
    exact w_L_law_b1698 C E Q h23 _ _ _ _ _ _ hd
  rw [if_neg e28] at hd
  refine g_tabOut C dL_law_39 (tab_out (fun j hj => match j, hj with | 0, _ => e0 | 1, _ => e1 | 2, _ => e2 | 3, _ => e3 | 4, _ => e4 | 5, _ => e5 | 6, _ => e6 | 7, _ => e7 | 8, _ => e8 | 9, _ => e9 | 10, _ => e10 | 11, _ => e11 | 12, _ => e12 | 13, _ => e13 | 14, _ => e14 | 15, _ => e15 | 16, _ => e16 | 17, _ => e17 | 18, _ => e18 | 19, _ => e19 | 20, _ => e20 | 21, _ => e21 | 22, _ => e22 | 23, _ => e23 | 24, _ => e24 | 25, _ => e25 | 26, _ => e26 | 27, _ => e27 | 28, _ => e28 | n + 29, h => absurd h (by omega))) (tgt := 1790) (by decide) ?_
  refine g_sub [0, 1, 2, 3, 4] rfl ?_
  exact w_L_law_b1790 C E Q h23 _ _ _ _ _ _ hd
theorem w_L_law_b23 {K : KT} {r : Int32} {S1 : St} (C : GC K RX0 cL_law 7 41 []) (E : EH (kΓ K) (kHI K) (kl K)) (Q : GQL K r S1) : ∀ (n : Nat) (S : St) (x0 : Option Nat) (x1 : Option Nat) (x2 : Option Nat) (x3 : Option Nat) (x4 : Int32), n_L_law_b23 n S x0 x1 x2 x3 x4 = some (r, S1) → G K 7 S 23 [(0, vR x0), (1, vR x1), (2, vR x2), (3, vR x3), (4, vI x4)] [] := by
  intro n
  induction n with
  | zero => intro S x0 x1 x2 x3 x4 hd; cases hd
  | succ n ih =>
    intro S x0 x1 x2 x3 x4 hd
    unfold n_L_law_b23 at hd
    refine g_iload C dL_law_23 4 rfl ?_
    refine g_aload_n C dL_law_25 rfl 0 rfl ?_
    obtain ⟨v1, hv1, hd⟩ := Option.bind_eq_some_iff.mp hd
    refine g_alen C dL_law_26 hv1 ?_
    refine g_iconst (v := 5) C dL_law_27 (by decide) ?_
    refine g_isub C dL_law_28 ?_
    refine g_icmp_gt (tgt := 1796) C dL_law_29 (by decide) hd (fun hd => ?_) (fun hd => ?_)
    · refine g_iconst (v := 1) C dL_law_1796 (by decide) ?_
      exact g_lret C Q hd dL_law_1797
    · refine g_aload_n C dL_law_32 rfl 0 rfl ?_
      refine g_iload C dL_law_33 4 rfl ?_
      obtain ⟨v2, hv2, hd⟩ := Option.bind_eq_some_iff.mp hd
      refine g_iald10 C dL_law_35 hv2 ?_
      refine g_bipush (v := 31) C dL_law_36 (by decide) ?_
      refine g_iand C dL_law_38 ?_
      refine g_sub [0, 1, 2, 3, 4] rfl ?_
      exact w_L_law_b39 C E Q ih _ _ _ _ _ _ _ hd
theorem w_L_law_b0m {K : KT} {r : Int32} {S1 : St} (C : GC K RX0 cL_law 7 41 []) (E : EH (kΓ K) (kHI K) (kl K)) (Q : GQL K r S1) : ∀ (S : St) (x0 : Option Nat), n_L_law S x0 = some (r, S1) → G K 7 S 0 [(0, vR x0)] [] := by
  intro S x0 hd
  unfold n_L_law at hd
  refine g_new C gk_X1 (fun j hj => gdf_X1 j hj) q143 q144 q95 dL_law_0 hd (fun q1 S2 hd => ?_)
  refine g_dup C dL_law_3 rfl ?_
  obtain ⟨hg, hd⟩ := gd_some hd
  obtain ⟨_, S3, hc, hd⟩ := bn_some hd
  refine g_cI_n (n := 0) C q145 q146 q95 q147 rfl (by decide +kernel) (by decide) (by decide) dL_law_4 (As := []) (rest := [vR q1]) rfl rfl (Nat.le_of_ble_eq_true rfl) hg (m_X1_init E hc) ?_
  refine g_astore_n (L' := [(1, vR q1), (0, vR x0)]) C dL_law_7 rfl (by decide) rfl ?_
  refine g_new C gk_X3 (fun j hj => gdf_X3 j hj) q1960 q1961 q108 dL_law_8 hd (fun q5 S6 hd => ?_)
  refine g_dup C dL_law_11 rfl ?_
  obtain ⟨hg, hd⟩ := gd_some hd
  obtain ⟨_, S7, hc, hd⟩ := bn_some hd
  refine g_cI_n (n := 0) C q1962 q1963 q108 q1964 rfl (by decide +kernel) (by decide) (by decide) dL_law_12 (As := []) (rest := [vR q5]) rfl rfl (Nat.le_of_ble_eq_true rfl) hg (m_X3_init E hc) ?_
  refine g_astore_n (L' := [(2, vR q5), (1, vR q1), (0, vR x0)]) C dL_law_15 rfl (by decide) rfl ?_
  refine g_iconst (v := 1) C dL_law_16 (by decide) ?_
  refine g_newa (atype := .long) C 3 (by decide) rfl q230 dL_law_17 hd (fun q9 S10 hd => ?_)
  refine g_astore_n (L' := [(3, vR q9), (2, vR q5), (1, vR q1), (0, vR x0)]) C dL_law_19 rfl (by decide) rfl ?_
  refine g_iconst (v := 0) C dL_law_20 (by decide) ?_
  refine g_istore (L' := [(4, vI (0 : Int32)), (3, vR q9), (2, vR q5), (1, vR q1), (0, vR x0)]) C dL_law_21 (by decide) rfl ?_
  refine g_sub [4, 3, 2, 1, 0] rfl ?_
  exact w_L_law_b23 C E Q FU _ _ _ _ _ _ hd
