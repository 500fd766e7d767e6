/-! generated: what each method does to the abstract heap -/
set_option maxRecDepth 100000
def wX5_lengthOf_b26 (Q : hG → Int32 → Prop) (v2 : Int32) (G : hG) : Prop :=
  Q G v2
def wX5_lengthOf_b4 (Q : hG → Int32 → Prop) (r4 : Int32 → Int64 → hG → Prop) (v2 : Int32) (v3 : Int64) (G : hG) : Prop :=
  (v3 = (0 : Int64) → (wX5_lengthOf_b26 Q v2 G)) ∧ (¬ v3 = (0 : Int64) → (((8 : Int32) < v2 → (wX5_lengthOf_b26 Q v2 G)) ∧ (¬ (8 : Int32) < v2 → (hlet (((v3).toUInt64 >>> (((5 : Int32)).toInt64.toUInt64 &&& Int64.toUInt64 63)).toInt64) fun x4 => r4 (v2 + (1 : Int32)) x4 G))))
def wX5_lengthOf_l4 (Q : hG → Int32 → Prop) (n : Nat) : Int32 → Int64 → hG → Prop := Nat.rec (motive := fun _ => Int32 → Int64 → hG → Prop) (fun _ _ _ => False) (fun _ ih => wX5_lengthOf_b4 Q ih) n
def wX5_lengthOf (Q : hG → Int32 → Prop) (v0 : Int64) (G : hG) : Prop :=
  ∃ n, wX5_lengthOf_l4 Q n (0 : Int32) v0 G
abbrev rmX5_lengthOf : Room := { frames := 0, cells := 0, slots := 0, locals := 0 }
def wX1_inRange_b18 (Q : hG → Int32 → Prop) (s0 : Int32) (G : hG) : Prop :=
  hFt .boolean s0 ∧ Q G s0
def wX1_inRange_b17 (Q : hG → Int32 → Prop)  (G : hG) : Prop :=
  wX1_inRange_b18 Q (0 : Int32) G
def wX1_inRange (Q : hG → Int32 → Prop) (v0 : Int64) (v2 : Int64) (v4 : Int64) (G : hG) : Prop :=
  (v0 < v2 → (wX1_inRange_b17 Q G)) ∧ (¬ v0 < v2 → ((v4 < v0 → (wX1_inRange_b17 Q G)) ∧ (¬ v4 < v0 → (wX1_inRange_b18 Q (1 : Int32) G))))
abbrev rmX1_inRange : Room := { frames := 0, cells := 0, slots := 0, locals := 0 }
def wX5_isWord_b48 (Q : hG → Int32 → Prop) (r13 : Int64 → Int32 → Int32 → Int32 → hG → Prop) (v0 : Int64) (v2 : Int32) (v4 : Int32) (s0 : Int32) (G : hG) : Prop :=
  r13 v0 v2 s0 (v4 + (1 : Int32)) G
def wX5_isWord_b47 (Q : hG → Int32 → Prop) (r13 : Int64 → Int32 → Int32 → Int32 → hG → Prop) (v0 : Int64) (v2 : Int32) (v4 : Int32) (G : hG) : Prop :=
  wX5_isWord_b48 Q r13 v0 v2 v4 (0 : Int32) G
def wX5_isWord_b13 (Q : hG → Int32 → Prop) (r13 : Int64 → Int32 → Int32 → Int32 → hG → Prop) (v0 : Int64) (v2 : Int32) (v3 : Int32) (v4 : Int32) (G : hG) : Prop :=
  (v2 ≤ v4 → (hFt .boolean v3 ∧ Q G v3)) ∧ (¬ v2 ≤ v4 → ((v3 = 0 → (wX5_isWord_b47 Q r13 v0 v2 v4 G)) ∧ (¬ v3 = 0 → (wX1_inRange (fun G3 z4 => (z4 = 0 → (wX5_isWord_b47 Q r13 v0 v2 v4 G3)) ∧ (¬ z4 = 0 → (wX5_isWord_b48 Q r13 v0 v2 v4 (1 : Int32) G3))) (((v0).toUInt64 >>> ((((5 : Int32) * v4)).toInt64.toUInt64 &&& Int64.toUInt64 63)).toInt64 &&& (31 : Int64)) (1 : Int64) (26 : Int64) G))))
def wX5_isWord_l13 (Q : hG → Int32 → Prop) (n : Nat) : Int64 → Int32 → Int32 → Int32 → hG → Prop := Nat.rec (motive := fun _ => Int64 → Int32 → Int32 → Int32 → hG → Prop) (fun _ _ _ _ _ => False) (fun _ ih => wX5_isWord_b13 Q ih) n
def wX5_isWord (Q : hG → Int32 → Prop) (v0 : Int64) (v2 : Int32) (G : hG) : Prop :=
  wX1_inRange (fun G1 z2 => ∃ n, wX5_isWord_l13 Q n v0 v2 z2 (0 : Int32) G1) ((v2).toInt64) (1 : Int64) (8 : Int64) G
abbrev rmX5_isWord : Room := { frames := 1, cells := 0, slots := 0, locals := 25 }
def wX1_requireArgument (Q : hG → Prop) (X : Bool → hG → Prop) (v0 : Int32) (v1 : Nat) (G : hG) : Prop :=
  (v0 = 0 → (X false G)) ∧ (¬ v0 = 0 → (Q G))
abbrev rmX1_requireArgument : Room := { frames := 6, cells := 1, slots := 6, locals := 90 }
def wX5_init (Q : hG → Prop) (X : Bool → hG → Prop) (v0 : Nat) (v1 : Int64) (G : hG) : Prop :=
  hC G v0 = some (4, true) ∧ hlet (hsJ G v0 0 v1) fun G2 => wX5_lengthOf (fun G5 z6 => hC G5 v0 = some (4, true) ∧ hlet (hsI G5 v0 1 z6) fun G11 => hcl G11 v0 4 ∧ (wX5_isWord (fun G15 z16 => wX1_requireArgument (fun G20 => Q G20) X z16 (hK G15 131) G15) v1 (hI G11 v0 1) G11)) v1 G2
abbrev rmX5_init : Room := { frames := 7, cells := 1, slots := 6, locals := 111 }
def wJ0_init_c9 (Q : hG → Prop) (v0 : Nat) (G : hG) : Prop :=
  Q G
abbrev rmJ0_init_c9 : Room := { frames := 1, cells := 0, slots := 0, locals := 12 }
def wJ1_init (Q : hG → Prop) (v0 : Nat) (G : hG) : Prop :=
  wJ0_init_c9 (fun G1 => hC G1 v0 = some (9, true) ∧ hlet (hsI G1 v0 4 (0 : Int32)) fun G6 => hC G6 v0 = some (9, true) ∧ hlet (hsI G6 v0 5 (0 : Int32)) fun G10 => hC G10 v0 = some (9, true) ∧ hlet (hsR G10 v0 2 none) fun G14 => Q G14) v0 G
abbrev rmJ1_init : Room := { frames := 2, cells := 0, slots := 0, locals := 32 }
def wJ2_init_c17 (Q : hG → Prop) (v0 : Nat) (G : hG) : Prop :=
  Q G
abbrev rmJ2_init_c17 : Room := { frames := 1, cells := 0, slots := 0, locals := 12 }
def wJ3_init_c17 (Q : hG → Prop) (v0 : Nat) (G : hG) : Prop :=
  wJ2_init_c17 (fun G1 => Q G1) v0 G
abbrev rmJ3_init_c17 : Room := { frames := 2, cells := 0, slots := 0, locals := 32 }
def wJ4_init_2 (Q : hG → Prop) (v0 : Nat) (v1 : Option Nat) (G : hG) : Prop :=
  wJ3_init_c17 (fun G1 => hC G1 v0 = some (17, true) ∧ hlet (hsR G1 v0 0 v1) fun G6 => Q G6) v0 G
abbrev rmJ4_init_2 : Room := { frames := 3, cells := 0, slots := 0, locals := 52 }
def wJ4_init (Q : hG → Prop) (v0 : Nat) (G : hG) : Prop :=
  ∀ q1, hfr G q1 → hlet (hnw G q1 9 0) fun G2 => wJ1_init (fun G6 => wJ4_init_2 (fun G10 => Q G10) v0 (some q1) G6) q1 G2
abbrev rmJ4_init : Room := { frames := 4, cells := 1, slots := 9, locals := 73 }
def wJ2_init_c18 (Q : hG → Prop) (v0 : Nat) (G : hG) : Prop :=
  Q G
abbrev rmJ2_init_c18 : Room := { frames := 1, cells := 0, slots := 0, locals := 12 }
def wJ5_init_c18 (Q : hG → Prop) (v0 : Nat) (G : hG) : Prop :=
  wJ2_init_c18 (fun G1 => hC G1 v0 = some (18, true) ∧ hlet (hsI G1 v0 0 (0 : Int32)) fun G6 => Q G6) v0 G
abbrev rmJ5_init_c18 : Room := { frames := 2, cells := 0, slots := 0, locals := 32 }
def wJ6_init (Q : hG → Prop) (v0 : Nat) (G : hG) : Prop :=
  wJ5_init_c18 (fun G1 => hC G1 v0 = some (18, true) ∧ hlet (hsR G1 v0 1 (some (hK G1 1))) fun G6 => Q G6) v0 G
abbrev rmJ6_init : Room := { frames := 3, cells := 0, slots := 0, locals := 52 }
def wX3_init (Q : hG → Prop) (v0 : Nat) (v1 : Int32) (G : hG) : Prop :=
  ∀ q1, hfr G q1 → hlet (hnw G q1 18 0) fun G2 => wJ6_init (fun G6 => hC G6 v0 = some (3, true) ∧ hlet (hsR G6 v0 0 (some q1)) fun G11 => hC G11 v0 = some (3, true) ∧ hlet (hsI G11 v0 1 v1) fun G15 => Q G15) q1 G2
abbrev rmX3_init : Room := { frames := 4, cells := 1, slots := 3, locals := 72 }
def wX2_init (Q : hG → Prop) (v0 : Nat) (v1 : Nat) (v2 : Nat) (G : hG) : Prop :=
  ∀ q1, hfr G q1 → hlet (hnw G q1 9 0) fun G2 => wJ1_init (fun G6 => hC G6 v0 = some (2, true) ∧ hlet (hsR G6 v0 0 (some q1)) fun G11 => ∀ q14, hfr G11 q14 → hlet (hnw G11 q14 17 0) fun G15 => wJ4_init (fun G19 => hC G19 v0 = some (2, true) ∧ hlet (hsR G19 v0 1 (some q14)) fun G24 => ∀ q27, hfr G24 q27 → hlet (hnw G24 q27 3 0) fun G28 => wX3_init (fun G32 => hC G32 v0 = some (2, true) ∧ hlet (hsR G32 v0 2 (some q27)) fun G37 => ∀ q40, hfr G37 q40 → hlet (hnw G37 q40 3 0) fun G41 => wX3_init (fun G45 => hC G45 v0 = some (2, true) ∧ hlet (hsR G45 v0 3 (some q40)) fun G50 => ∀ q53, hfr G50 q53 → hlet (hnw G50 q53 3 0) fun G54 => wX3_init (fun G58 => hC G58 v0 = some (2, true) ∧ hlet (hsR G58 v0 4 (some q53)) fun G63 => ∀ q66, hfr G63 q66 → hlet (hnw G63 q66 3 0) fun G67 => wX3_init (fun G71 => hC G71 v0 = some (2, true) ∧ hlet (hsR G71 v0 5 (some q66)) fun G76 => hC G76 v0 = some (2, true) ∧ hlet (hsR G76 v0 6 (some v1)) fun G80 => hC G80 v0 = some (2, true) ∧ hlet (hsR G80 v0 7 (some v2)) fun G84 => Q G84) q66 (20 : Int32) G67) q53 (20 : Int32) G54) q40 (24 : Int32) G41) q27 (24 : Int32) G28) q14 G15) q1 G2
abbrev rmX2_init : Room := { frames := 5, cells := 11, slots := 39, locals := 93 }
def wJ1_size (Q : hG → Int32 → Prop) (v0 : Nat) (G : hG) : Prop :=
  hcl G v0 9 ∧ (Q G (hI G v0 4))
abbrev rmJ1_size : Room := { frames := 0, cells := 0, slots := 0, locals := 0 }
def wJ1_comparator (Q : hG → Option Nat → Prop) (v0 : Nat) (G : hG) : Prop :=
  hcl G v0 9 ∧ hlet (hR G v0 2) fun y2 => Q G y2
abbrev rmJ1_comparator : Room := { frames := 0, cells := 0, slots := 0, locals := 0 }
def wJ11_equals (Q : hG → Int32 → Prop) (v0 : Option Nat) (v1 : Option Nat) (G : hG) : Prop :=
  (v0 = v1 → (Q G (1 : Int32))) ∧ (¬ v0 = v1 → (False))
abbrev rmJ11_equals : Room := { frames := 0, cells := 0, slots := 0, locals := 0 }
def wJ2_init_c16 (Q : hG → Prop) (v0 : Nat) (G : hG) : Prop :=
  Q G
abbrev rmJ2_init_c16 : Room := { frames := 1, cells := 0, slots := 0, locals := 12 }
def wJ3_init_c16 (Q : hG → Prop) (v0 : Nat) (G : hG) : Prop :=
  wJ2_init_c16 (fun G1 => Q G1) v0 G
abbrev rmJ3_init_c16 : Room := { frames := 2, cells := 0, slots := 0, locals := 32 }
def wJ14_init (Q : hG → Prop) (v0 : Nat) (v1 : Nat) (G : hG) : Prop :=
  hC G v0 = some (16, true) ∧ hlet (hsR G v0 0 (some v1)) fun G2 => wJ3_init_c16 (fun G5 => Q G5) v0 G2
abbrev rmJ14_init : Room := { frames := 3, cells := 0, slots := 0, locals := 52 }
def wJ1_entrySet_b26 (Q : hG → Option Nat → Prop) (s0 : Nat) (G : hG) : Prop :=
  Q G (some s0)
def wJ1_entrySet (Q : hG → Option Nat → Prop) (v0 : Nat) (G : hG) : Prop :=
  hcl G v0 9 ∧ hlet (hR G v0 6) fun y2 => (y2 = none → (∀ q6, hfr G q6 → hlet (hnw G q6 16 0) fun G7 => wJ14_init (fun G11 => hC G11 v0 = some (9, true) ∧ hlet (hsR G11 v0 6 (some q6)) fun G16 => wJ1_entrySet_b26 Q q6 G16) q6 v0 G7)) ∧ (∀ y4, y2 = some y4 → (wJ1_entrySet_b26 Q y4 G))
abbrev rmJ1_entrySet : Room := { frames := 4, cells := 1, slots := 1, locals := 73 }
def wJ1_getFirstEntry_b24 (Q : hG → Option Nat → Prop) (v1 : Option Nat) (G : hG) : Prop :=
  Q G v1
def wJ1_getFirstEntry_b9 (Q : hG → Option Nat → Prop) (r9 : Option Nat → hG → Prop) (v1 : Option Nat) (G : hG) : Prop :=
  ∃ a1, v1 = some a1 ∧ (hcl G a1 10 ∧ hlet (hR G a1 2) fun y3 => (y3 = none → (wJ1_getFirstEntry_b24 Q (some a1) G)) ∧ (∀ y4, y3 = some y4 → (hcl G a1 10 ∧ hlet (hR G a1 2) fun y7 => r9 y7 G)))
def wJ1_getFirstEntry_l9 (Q : hG → Option Nat → Prop) (n : Nat) : Option Nat → hG → Prop := Nat.rec (motive := fun _ => Option Nat → hG → Prop) (fun _ _ => False) (fun _ ih => wJ1_getFirstEntry_b9 Q ih) n
def wJ1_getFirstEntry (Q : hG → Option Nat → Prop) (v0 : Nat) (G : hG) : Prop :=
  hcl G v0 9 ∧ hlet (hR G v0 3) fun y2 => (y2 = none → (wJ1_getFirstEntry_b24 Q none G)) ∧ (∀ y4, y2 = some y4 → (∃ n, wJ1_getFirstEntry_l9 Q n (some y4) G))
abbrev rmJ1_getFirstEntry : Room := { frames := 0, cells := 0, slots := 0, locals := 0 }
def wJ15_init_c13 (Q : hG → Prop) (v0 : Nat) (v1 : Nat) (v2 : Option Nat) (G : hG) : Prop :=
  hC G v0 = some (13, true) ∧ hlet (hsR G v0 3 (some v1)) fun G2 => hcl G2 v1 9 ∧ (hC G2 v0 = some (13, true) ∧ hlet (hsI G2 v0 2 (hI G2 v1 5)) fun G7 => hC G7 v0 = some (13, true) ∧ hlet (hsR G7 v0 1 none) fun G11 => hC G11 v0 = some (13, true) ∧ hlet (hsR G11 v0 0 v2) fun G15 => Q G15)
abbrev rmJ15_init_c13 : Room := { frames := 1, cells := 0, slots := 0, locals := 12 }
def wJ16_init (Q : hG → Prop) (v0 : Nat) (v1 : Nat) (v2 : Option Nat) (G : hG) : Prop :=
  wJ15_init_c13 (fun G1 => Q G1) v0 v1 v2 G
abbrev rmJ16_init : Room := { frames := 2, cells := 0, slots := 0, locals := 34 }
def wJ14_iterator (Q : hG → Option Nat → Prop) (v0 : Nat) (G : hG) : Prop :=
  ∀ q1, hfr G q1 → hlet (hnw G q1 13 0) fun G2 => hcl G2 v0 16 ∧ hlet (hR G2 v0 0) fun y7 => hcl G2 v0 16 ∧ hlet (hR G2 v0 0) fun y9 => ∃ a10, y9 = some a10 ∧ (hcl G2 a10 9 ∧ (wJ1_getFirstEntry (fun G11 z12 => ∃ a17, y7 = some a17 ∧ (wJ16_init (fun G18 => Q G18 (some q1)) q1 a17 z12 G11)) a10 G2))
abbrev rmJ14_iterator : Room := { frames := 3, cells := 1, slots := 4, locals := 56 }
def wJ20_numberOfLeadingZeros_b14 (Q : hG → Int32 → Prop) (s0 : Int32) (G : hG) : Prop :=
  Q G s0
def wJ20_numberOfLeadingZeros_b73 (Q : hG → Int32 → Prop) (v0 : Int32) (v1 : Int32) (G : hG) : Prop :=
  Q G (v1 - ((v0).toUInt32 >>> (((1 : Int32)).toUInt32 &&& Int32.toUInt32 31)).toInt32)
def wJ20_numberOfLeadingZeros_b61 (Q : hG → Int32 → Prop) (v0 : Int32) (v1 : Int32) (G : hG) : Prop :=
  (v0 < (4 : Int32) → (wJ20_numberOfLeadingZeros_b73 Q v0 v1 G)) ∧ (¬ v0 < (4 : Int32) → (hlet (((v0).toUInt32 >>> (((2 : Int32)).toUInt32 &&& Int32.toUInt32 31)).toInt32) fun x3 => wJ20_numberOfLeadingZeros_b73 Q x3 (v1 + (-2 : Int32)) G))
def wJ20_numberOfLeadingZeros_b48 (Q : hG → Int32 → Prop) (v0 : Int32) (v1 : Int32) (G : hG) : Prop :=
  (v0 < (16 : Int32) → (wJ20_numberOfLeadingZeros_b61 Q v0 v1 G)) ∧ (¬ v0 < (16 : Int32) → (hlet (((v0).toUInt32 >>> (((4 : Int32)).toUInt32 &&& Int32.toUInt32 31)).toInt32) fun x3 => wJ20_numberOfLeadingZeros_b61 Q x3 (v1 + (-4 : Int32)) G))
def wJ20_numberOfLeadingZeros_b33 (Q : hG → Int32 → Prop) (v0 : Int32) (v1 : Int32) (G : hG) : Prop :=
  (v0 < (256 : Int32) → (wJ20_numberOfLeadingZeros_b48 Q v0 v1 G)) ∧ (¬ v0 < (256 : Int32) → (hlet (((v0).toUInt32 >>> (((8 : Int32)).toUInt32 &&& Int32.toUInt32 31)).toInt32) fun x3 => wJ20_numberOfLeadingZeros_b48 Q x3 (v1 + (-8 : Int32)) G))
def wJ20_numberOfLeadingZeros (Q : hG → Int32 → Prop) (v0 : Int32) (G : hG) : Prop :=
  (0 < v0 → ((v0 < (65536 : Int32) → (wJ20_numberOfLeadingZeros_b33 Q v0 (31 : Int32) G)) ∧ (¬ v0 < (65536 : Int32) → (hlet (((v0).toUInt32 >>> (((16 : Int32)).toUInt32 &&& Int32.toUInt32 31)).toInt32) fun x5 => wJ20_numberOfLeadingZeros_b33 Q x5 ((31 : Int32) + (-16 : Int32)) G)))) ∧ (¬ 0 < v0 → ((v0 = 0 → (wJ20_numberOfLeadingZeros_b14 Q (32 : Int32) G)) ∧ (¬ v0 = 0 → (wJ20_numberOfLeadingZeros_b14 Q (0 : Int32) G))))
abbrev rmJ20_numberOfLeadingZeros : Room := { frames := 0, cells := 0, slots := 0, locals := 0 }
def wJ1_computeRedLevel (Q : hG → Int32 → Prop) (v0 : Int32) (G : hG) : Prop :=
  wJ20_numberOfLeadingZeros (fun G1 z2 => Q G1 ((31 : Int32) - z2)) (v0 + (1 : Int32)) G
abbrev rmJ1_computeRedLevel : Room := { frames := 1, cells := 0, slots := 0, locals := 21 }
def wJ1_successor_b18 (Q : hG → Option Nat → Prop) (r18 : Option Nat → hG → Prop) (v1 : Option Nat) (G : hG) : Prop :=
  ∃ a1, v1 = some a1 ∧ (hcl G a1 10 ∧ hlet (hR G a1 2) fun y3 => (y3 = none → (Q G (some a1))) ∧ (∀ y4, y3 = some y4 → (hcl G a1 10 ∧ hlet (hR G a1 2) fun y7 => r18 y7 G)))
def wJ1_successor_l18 (Q : hG → Option Nat → Prop) (n : Nat) : Option Nat → hG → Prop := Nat.rec (motive := fun _ => Option Nat → hG → Prop) (fun _ _ => False) (fun _ ih => wJ1_successor_b18 Q ih) n
def wJ1_successor_b64 (Q : hG → Option Nat → Prop) (v1 : Option Nat) (G : hG) : Prop :=
  Q G v1
def wJ1_successor_b42 (Q : hG → Option Nat → Prop) (r42 : Option Nat → Nat → hG → Prop) (v1 : Option Nat) (v2 : Nat) (G : hG) : Prop :=
  (v1 = none → (wJ1_successor_b64 Q none G)) ∧ (∀ y1, v1 = some y1 → (hcl G y1 10 ∧ hlet (hR G y1 3) fun y4 => ((some v2) = y4 → (hcl G y1 10 ∧ hlet (hR G y1 4) fun y8 => r42 y8 y1 G)) ∧ (¬ (some v2) = y4 → (wJ1_successor_b64 Q (some y1) G))))
def wJ1_successor_l42 (Q : hG → Option Nat → Prop) (n : Nat) : Option Nat → Nat → hG → Prop := Nat.rec (motive := fun _ => Option Nat → Nat → hG → Prop) (fun _ _ _ => False) (fun _ ih => wJ1_successor_b42 Q ih) n
def wJ1_successor (Q : hG → Option Nat → Prop) (v0 : Option Nat) (G : hG) : Prop :=
  (v0 = none → (Q G none)) ∧ (∀ y1, v0 = some y1 → (hcl G y1 10 ∧ hlet (hR G y1 3) fun y4 => (y4 = none → (hcl G y1 10 ∧ hlet (hR G y1 4) fun y8 => ∃ n, wJ1_successor_l42 Q n y8 y1 G)) ∧ (∀ y5, y4 = some y5 → (hcl G y1 10 ∧ hlet (hR G y1 3) fun y12 => ∃ n, wJ1_successor_l18 Q n y12 G))))
abbrev rmJ1_successor : Room := { frames := 0, cells := 0, slots := 0, locals := 0 }
def wJ15_nextEntry_c13 (Q : hG → Option Nat → Prop) (v0 : Nat) (G : hG) : Prop :=
  hcl G v0 13 ∧ hlet (hR G v0 0) fun y2 => (y2 = none → (False)) ∧ (∀ y4, y2 = some y4 → (hcl G v0 13 ∧ hlet (hR G v0 3) fun y7 => ∃ a8, y7 = some a8 ∧ (hcl G a8 9 ∧ (hcl G v0 13 ∧ (((hI G a8 5) = (hI G v0 2) → (wJ1_successor (fun G12 z13 => hC G12 v0 = some (13, true) ∧ hlet (hsR G12 v0 0 z13) fun G18 => hC G18 v0 = some (13, true) ∧ hlet (hsR G18 v0 1 (some y4)) fun G22 => Q G22 (some y4)) (some y4) G)) ∧ (¬ (hI G a8 5) = (hI G v0 2) → (False)))))))
abbrev rmJ15_nextEntry_c13 : Room := { frames := 1, cells := 0, slots := 0, locals := 22 }
def wJ16_next_2 (Q : hG → Option Nat → Prop) (v0 : Nat) (G : hG) : Prop :=
  hcl G v0 13 ∧ (wJ15_nextEntry_c13 (fun G1 z2 => Q G1 z2) v0 G)
abbrev rmJ16_next_2 : Room := { frames := 2, cells := 0, slots := 0, locals := 43 }
def wJ16_next (Q : hG → Option Nat → Prop) (v0 : Nat) (G : hG) : Prop :=
  hcl G v0 13 ∧ (wJ16_next_2 (fun G1 z2 => Q G1 z2) v0 G)
abbrev rmJ16_next : Room := { frames := 3, cells := 0, slots := 0, locals := 63 }
def wJ22_getKey (Q : hG → Option Nat → Prop) (v0 : Nat) (G : hG) : Prop :=
  hcl G v0 10 ∧ hlet (hR G v0 0) fun y2 => Q G y2
abbrev rmJ22_getKey : Room := { frames := 0, cells := 0, slots := 0, locals := 0 }
def wJ22_getValue (Q : hG → Option Nat → Prop) (v0 : Nat) (G : hG) : Prop :=
  hcl G v0 10 ∧ hlet (hR G v0 1) fun y2 => Q G y2
abbrev rmJ22_getValue : Room := { frames := 0, cells := 0, slots := 0, locals := 0 }
def wJ15_nextEntry_c11 (Q : hG → Option Nat → Prop) (v0 : Nat) (G : hG) : Prop :=
  hcl G v0 11 ∧ hlet (hR G v0 0) fun y2 => (y2 = none → (False)) ∧ (∀ y4, y2 = some y4 → (hcl G v0 11 ∧ hlet (hR G v0 3) fun y7 => ∃ a8, y7 = some a8 ∧ (hcl G a8 9 ∧ (hcl G v0 11 ∧ (((hI G a8 5) = (hI G v0 2) → (wJ1_successor (fun G12 z13 => hC G12 v0 = some (11, true) ∧ hlet (hsR G12 v0 0 z13) fun G18 => hC G18 v0 = some (11, true) ∧ hlet (hsR G18 v0 1 (some y4)) fun G22 => Q G22 (some y4)) (some y4) G)) ∧ (¬ (hI G a8 5) = (hI G v0 2) → (False)))))))
abbrev rmJ15_nextEntry_c11 : Room := { frames := 1, cells := 0, slots := 0, locals := 22 }
def wJ17_next (Q : hG → Option Nat → Prop) (v0 : Nat) (G : hG) : Prop :=
  hcl G v0 11 ∧ (wJ15_nextEntry_c11 (fun G1 z2 => ∃ a7, z2 = some a7 ∧ (hcl G1 a7 10 ∧ hlet (hR G1 a7 0) fun y9 => Q G1 y9)) v0 G)
abbrev rmJ17_next : Room := { frames := 2, cells := 0, slots := 0, locals := 43 }
def wJ22_init (Q : hG → Prop) (v0 : Nat) (v1 : Option Nat) (v2 : Option Nat) (v3 : Option Nat) (G : hG) : Prop :=
  hC G v0 = some (10, true) ∧ hlet (hsI G v0 5 (1 : Int32)) fun G2 => hC G2 v0 = some (10, true) ∧ hlet (hsR G2 v0 0 v1) fun G6 => hC G6 v0 = some (10, true) ∧ hlet (hsR G6 v0 1 v2) fun G10 => hC G10 v0 = some (10, true) ∧ hlet (hsR G10 v0 4 v3) fun G14 => Q G14
abbrev rmJ22_init : Room := { frames := 1, cells := 0, slots := 0, locals := 12 }
def wJ1_buildFromSorted_2_L0_b215 (Q : hG → Option Nat → Prop) (v12 : Nat) (G : hG) : Prop :=
  Q G (some v12)
def wJ1_buildFromSorted_2_L0_b173 (Q : hG → Option Nat → Prop) (v0 : Nat) (v1 : Int32) (v3 : Int32) (v4 : Int32) (v5 : Nat) (v6 : Option Nat) (v7 : Option Nat) (v8 : Int32) (v12 : Nat) (G : hG) : Prop :=
  (v3 ≤ v8 → (wJ1_buildFromSorted_2_L0_b215 Q v12 G)) ∧ (¬ v3 ≤ v8 → (False))
def wJ1_buildFromSorted_2_L0_b154 (Q : hG → Option Nat → Prop) (v0 : Nat) (v1 : Int32) (v3 : Int32) (v4 : Int32) (v5 : Nat) (v6 : Option Nat) (v7 : Option Nat) (v8 : Int32) (v9 : Option Nat) (v12 : Nat) (G : hG) : Prop :=
  (v9 = none → (wJ1_buildFromSorted_2_L0_b173 Q v0 v1 v3 v4 v5 v6 v7 v8 v12 G)) ∧ (∀ y1, v9 = some y1 → (hC G v12 = some (10, true) ∧ hlet (hsR G v12 2 (some y1)) fun G4 => hC G4 y1 = some (10, true) ∧ hlet (hsR G4 y1 4 (some v12)) fun G8 => wJ1_buildFromSorted_2_L0_b173 Q v0 v1 v3 v4 v5 v6 v7 v8 v12 G8))
def wJ1_buildFromSorted_2_L0_b128 (Q : hG → Option Nat → Prop) (v0 : Nat) (v1 : Int32) (v3 : Int32) (v4 : Int32) (v5 : Nat) (v6 : Option Nat) (v7 : Option Nat) (v8 : Int32) (v9 : Option Nat) (v10 : Option Nat) (v11 : Option Nat) (G : hG) : Prop :=
  ∀ q1, hfr G q1 → hlet (hnw G q1 10 0) fun G2 => wJ22_init (fun G6 => (v1 = v4 → (hC G6 q1 = some (10, true) ∧ hlet (hsI G6 q1 5 (0 : Int32)) fun G13 => wJ1_buildFromSorted_2_L0_b154 Q v0 v1 v3 v4 v5 v6 v7 v8 v9 q1 G13)) ∧ (¬ v1 = v4 → (wJ1_buildFromSorted_2_L0_b154 Q v0 v1 v3 v4 v5 v6 v7 v8 v9 q1 G6))) q1 v10 v11 none G2
def wJ1_buildFromSorted_2_L0_b45 (Q : hG → Option Nat → Prop) (v0 : Nat) (v1 : Int32) (v3 : Int32) (v4 : Int32) (v5 : Option Nat) (v6 : Option Nat) (v7 : Option Nat) (v8 : Int32) (v9 : Option Nat) (G : hG) : Prop :=
  (v5 = none → (False)) ∧ (∀ y1, v5 = some y1 → ((v7 = none → (hcl G y1 13 ∧ (wJ16_next (fun G5 z6 => (∀ y, z6 = some y → hcl G5 y 10) ∧ (∃ a13, z6 = some a13 ∧ (hcl G5 a13 10 ∧ (wJ22_getKey (fun G14 z15 => hcl G14 a13 10 ∧ (wJ22_getValue (fun G21 z22 => wJ1_buildFromSorted_2_L0_b128 Q v0 v1 v3 v4 y1 v6 none v8 v9 z15 z22 G21) a13 G14)) a13 G5)))) y1 G))) ∧ (∀ y3, v7 = some y3 → (hcl G y1 11 ∧ (wJ17_next (fun G28 z29 => wJ1_buildFromSorted_2_L0_b128 Q v0 v1 v3 v4 y1 v6 (some y3) v8 v9 z29 (some y3) G28) y1 G)))))
def wJ1_buildFromSorted_2_L0 (Q : hG → Option Nat → Prop) (v0 : Nat) (v1 : Int32) (v2 : Int32) (v3 : Int32) (v4 : Int32) (v5 : Option Nat) (v6 : Option Nat) (v7 : Option Nat) (G : hG) : Prop :=
  (v2 ≤ v3 → (hlet ((((v2 + v3)).toUInt32 >>> (((1 : Int32)).toUInt32 &&& Int32.toUInt32 31)).toInt32) fun x2 => (x2 ≤ v2 → (wJ1_buildFromSorted_2_L0_b45 Q v0 v1 v3 v4 v5 v6 v7 x2 none G)) ∧ (¬ x2 ≤ v2 → (False)))) ∧ (¬ v2 ≤ v3 → (Q G none))
abbrev rmJ1_buildFromSorted_2_L0 : Room := { frames := 4, cells := 1, slots := 6, locals := 83 }
def wJ1_buildFromSorted_2_L1_b215 (Q : hG → Option Nat → Prop) (v12 : Nat) (G : hG) : Prop :=
  Q G (some v12)
def wJ1_buildFromSorted_2_L1_b173 (Q : hG → Option Nat → Prop) (v0 : Nat) (v1 : Int32) (v3 : Int32) (v4 : Int32) (v5 : Nat) (v6 : Option Nat) (v7 : Option Nat) (v8 : Int32) (v12 : Nat) (G : hG) : Prop :=
  (v3 ≤ v8 → (wJ1_buildFromSorted_2_L1_b215 Q v12 G)) ∧ (¬ v3 ≤ v8 → (hcl G v0 9 ∧ (wJ1_buildFromSorted_2_L0 (fun G2 z3 => hC G2 v12 = some (10, true) ∧ hlet (hsR G2 v12 3 z3) fun G10 => ∃ a13, z3 = some a13 ∧ (hC G10 a13 = some (10, true) ∧ hlet (hsR G10 a13 4 (some v12)) fun G15 => wJ1_buildFromSorted_2_L1_b215 Q v12 G15)) v0 (v1 + (1 : Int32)) (v8 + (1 : Int32)) v3 v4 (some v5) v6 v7 G)))
def wJ1_buildFromSorted_2_L1_b154 (Q : hG → Option Nat → Prop) (v0 : Nat) (v1 : Int32) (v3 : Int32) (v4 : Int32) (v5 : Nat) (v6 : Option Nat) (v7 : Option Nat) (v8 : Int32) (v9 : Option Nat) (v12 : Nat) (G : hG) : Prop :=
  (v9 = none → (wJ1_buildFromSorted_2_L1_b173 Q v0 v1 v3 v4 v5 v6 v7 v8 v12 G)) ∧ (∀ y1, v9 = some y1 → (hC G v12 = some (10, true) ∧ hlet (hsR G v12 2 (some y1)) fun G4 => hC G4 y1 = some (10, true) ∧ hlet (hsR G4 y1 4 (some v12)) fun G8 => wJ1_buildFromSorted_2_L1_b173 Q v0 v1 v3 v4 v5 v6 v7 v8 v12 G8))
def wJ1_buildFromSorted_2_L1_b128 (Q : hG → Option Nat → Prop) (v0 : Nat) (v1 : Int32) (v3 : Int32) (v4 : Int32) (v5 : Nat) (v6 : Option Nat) (v7 : Option Nat) (v8 : Int32) (v9 : Option Nat) (v10 : Option Nat) (v11 : Option Nat) (G : hG) : Prop :=
  ∀ q1, hfr G q1 → hlet (hnw G q1 10 0) fun G2 => wJ22_init (fun G6 => (v1 = v4 → (hC G6 q1 = some (10, true) ∧ hlet (hsI G6 q1 5 (0 : Int32)) fun G13 => wJ1_buildFromSorted_2_L1_b154 Q v0 v1 v3 v4 v5 v6 v7 v8 v9 q1 G13)) ∧ (¬ v1 = v4 → (wJ1_buildFromSorted_2_L1_b154 Q v0 v1 v3 v4 v5 v6 v7 v8 v9 q1 G6))) q1 v10 v11 none G2
def wJ1_buildFromSorted_2_L1_b45 (Q : hG → Option Nat → Prop) (v0 : Nat) (v1 : Int32) (v3 : Int32) (v4 : Int32) (v5 : Option Nat) (v6 : Option Nat) (v7 : Option Nat) (v8 : Int32) (v9 : Option Nat) (G : hG) : Prop :=
  (v5 = none → (False)) ∧ (∀ y1, v5 = some y1 → ((v7 = none → (hcl G y1 13 ∧ (wJ16_next (fun G5 z6 => (∀ y, z6 = some y → hcl G5 y 10) ∧ (∃ a13, z6 = some a13 ∧ (hcl G5 a13 10 ∧ (wJ22_getKey (fun G14 z15 => hcl G14 a13 10 ∧ (wJ22_getValue (fun G21 z22 => wJ1_buildFromSorted_2_L1_b128 Q v0 v1 v3 v4 y1 v6 none v8 v9 z15 z22 G21) a13 G14)) a13 G5)))) y1 G))) ∧ (∀ y3, v7 = some y3 → (hcl G y1 11 ∧ (wJ17_next (fun G28 z29 => wJ1_buildFromSorted_2_L1_b128 Q v0 v1 v3 v4 y1 v6 (some y3) v8 v9 z29 (some y3) G28) y1 G)))))
def wJ1_buildFromSorted_2_L1 (Q : hG → Option Nat → Prop) (v0 : Nat) (v1 : Int32) (v2 : Int32) (v3 : Int32) (v4 : Int32) (v5 : Option Nat) (v6 : Option Nat) (v7 : Option Nat) (G : hG) : Prop :=
  (v2 ≤ v3 → (hlet ((((v2 + v3)).toUInt32 >>> (((1 : Int32)).toUInt32 &&& Int32.toUInt32 31)).toInt32) fun x2 => (x2 ≤ v2 → (wJ1_buildFromSorted_2_L1_b45 Q v0 v1 v3 v4 v5 v6 v7 x2 none G)) ∧ (¬ x2 ≤ v2 → (hcl G v0 9 ∧ (wJ1_buildFromSorted_2_L0 (fun G6 z7 => wJ1_buildFromSorted_2_L1_b45 Q v0 v1 v3 v4 v5 v6 v7 x2 z7 G6) v0 (v1 + (1 : Int32)) v2 (x2 - (1 : Int32)) v4 v5 v6 v7 G))))) ∧ (¬ v2 ≤ v3 → (Q G none))
abbrev rmJ1_buildFromSorted_2_L1 : Room := { frames := 5, cells := 3, slots := 18, locals := 116 }
def wJ1_buildFromSorted_2_L2_b215 (Q : hG → Option Nat → Prop) (v12 : Nat) (G : hG) : Prop :=
  Q G (some v12)
def wJ1_buildFromSorted_2_L2_b173 (Q : hG → Option Nat → Prop) (v0 : Nat) (v1 : Int32) (v3 : Int32) (v4 : Int32) (v5 : Nat) (v6 : Option Nat) (v7 : Option Nat) (v8 : Int32) (v12 : Nat) (G : hG) : Prop :=
  (v3 ≤ v8 → (wJ1_buildFromSorted_2_L2_b215 Q v12 G)) ∧ (¬ v3 ≤ v8 → (hcl G v0 9 ∧ (wJ1_buildFromSorted_2_L1 (fun G2 z3 => hC G2 v12 = some (10, true) ∧ hlet (hsR G2 v12 3 z3) fun G10 => ∃ a13, z3 = some a13 ∧ (hC G10 a13 = some (10, true) ∧ hlet (hsR G10 a13 4 (some v12)) fun G15 => wJ1_buildFromSorted_2_L2_b215 Q v12 G15)) v0 (v1 + (1 : Int32)) (v8 + (1 : Int32)) v3 v4 (some v5) v6 v7 G)))
def wJ1_buildFromSorted_2_L2_b154 (Q : hG → Option Nat → Prop) (v0 : Nat) (v1 : Int32) (v3 : Int32) (v4 : Int32) (v5 : Nat) (v6 : Option Nat) (v7 : Option Nat) (v8 : Int32) (v9 : Option Nat) (v12 : Nat) (G : hG) : Prop :=
  (v9 = none → (wJ1_buildFromSorted_2_L2_b173 Q v0 v1 v3 v4 v5 v6 v7 v8 v12 G)) ∧ (∀ y1, v9 = some y1 → (hC G v12 = some (10, true) ∧ hlet (hsR G v12 2 (some y1)) fun G4 => hC G4 y1 = some (10, true) ∧ hlet (hsR G4 y1 4 (some v12)) fun G8 => wJ1_buildFromSorted_2_L2_b173 Q v0 v1 v3 v4 v5 v6 v7 v8 v12 G8))
def wJ1_buildFromSorted_2_L2_b128 (Q : hG → Option Nat → Prop) (v0 : Nat) (v1 : Int32) (v3 : Int32) (v4 : Int32) (v5 : Nat) (v6 : Option Nat) (v7 : Option Nat) (v8 : Int32) (v9 : Option Nat) (v10 : Option Nat) (v11 : Option Nat) (G : hG) : Prop :=
  ∀ q1, hfr G q1 → hlet (hnw G q1 10 0) fun G2 => wJ22_init (fun G6 => (v1 = v4 → (hC G6 q1 = some (10, true) ∧ hlet (hsI G6 q1 5 (0 : Int32)) fun G13 => wJ1_buildFromSorted_2_L2_b154 Q v0 v1 v3 v4 v5 v6 v7 v8 v9 q1 G13)) ∧ (¬ v1 = v4 → (wJ1_buildFromSorted_2_L2_b154 Q v0 v1 v3 v4 v5 v6 v7 v8 v9 q1 G6))) q1 v10 v11 none G2
def wJ1_buildFromSorted_2_L2_b45 (Q : hG → Option Nat → Prop) (v0 : Nat) (v1 : Int32) (v3 : Int32) (v4 : Int32) (v5 : Option Nat) (v6 : Option Nat) (v7 : Option Nat) (v8 : Int32) (v9 : Option Nat) (G : hG) : Prop :=
  (v5 = none → (False)) ∧ (∀ y1, v5 = some y1 → ((v7 = none → (hcl G y1 13 ∧ (wJ16_next (fun G5 z6 => (∀ y, z6 = some y → hcl G5 y 10) ∧ (∃ a13, z6 = some a13 ∧ (hcl G5 a13 10 ∧ (wJ22_getKey (fun G14 z15 => hcl G14 a13 10 ∧ (wJ22_getValue (fun G21 z22 => wJ1_buildFromSorted_2_L2_b128 Q v0 v1 v3 v4 y1 v6 none v8 v9 z15 z22 G21) a13 G14)) a13 G5)))) y1 G))) ∧ (∀ y3, v7 = some y3 → (hcl G y1 11 ∧ (wJ17_next (fun G28 z29 => wJ1_buildFromSorted_2_L2_b128 Q v0 v1 v3 v4 y1 v6 (some y3) v8 v9 z29 (some y3) G28) y1 G)))))
def wJ1_buildFromSorted_2_L2 (Q : hG → Option Nat → Prop) (v0 : Nat) (v1 : Int32) (v2 : Int32) (v3 : Int32) (v4 : Int32) (v5 : Option Nat) (v6 : Option Nat) (v7 : Option Nat) (G : hG) : Prop :=
  (v2 ≤ v3 → (hlet ((((v2 + v3)).toUInt32 >>> (((1 : Int32)).toUInt32 &&& Int32.toUInt32 31)).toInt32) fun x2 => (x2 ≤ v2 → (wJ1_buildFromSorted_2_L2_b45 Q v0 v1 v3 v4 v5 v6 v7 x2 none G)) ∧ (¬ x2 ≤ v2 → (hcl G v0 9 ∧ (wJ1_buildFromSorted_2_L1 (fun G6 z7 => wJ1_buildFromSorted_2_L2_b45 Q v0 v1 v3 v4 v5 v6 v7 x2 z7 G6) v0 (v1 + (1 : Int32)) v2 (x2 - (1 : Int32)) v4 v5 v6 v7 G))))) ∧ (¬ v2 ≤ v3 → (Q G none))
abbrev rmJ1_buildFromSorted_2_L2 : Room := { frames := 6, cells := 7, slots := 42, locals := 149 }
def wJ1_buildFromSorted_2_L3_b215 (Q : hG → Option Nat → Prop) (v12 : Nat) (G : hG) : Prop :=
  Q G (some v12)
def wJ1_buildFromSorted_2_L3_b173 (Q : hG → Option Nat → Prop) (v0 : Nat) (v1 : Int32) (v3 : Int32) (v4 : Int32) (v5 : Nat) (v6 : Option Nat) (v7 : Option Nat) (v8 : Int32) (v12 : Nat) (G : hG) : Prop :=
  (v3 ≤ v8 → (wJ1_buildFromSorted_2_L3_b215 Q v12 G)) ∧ (¬ v3 ≤ v8 → (hcl G v0 9 ∧ (wJ1_buildFromSorted_2_L2 (fun G2 z3 => hC G2 v12 = some (10, true) ∧ hlet (hsR G2 v12 3 z3) fun G10 => ∃ a13, z3 = some a13 ∧ (hC G10 a13 = some (10, true) ∧ hlet (hsR G10 a13 4 (some v12)) fun G15 => wJ1_buildFromSorted_2_L3_b215 Q v12 G15)) v0 (v1 + (1 : Int32)) (v8 + (1 : Int32)) v3 v4 (some v5) v6 v7 G)))
def wJ1_buildFromSorted_2_L3_b154 (Q : hG → Option Nat → Prop) (v0 : Nat) (v1 : Int32) (v3 : Int32) (v4 : Int32) (v5 : Nat) (v6 : Option Nat) (v7 : Option Nat) (v8 : Int32) (v9 : Option Nat) (v12 : Nat) (G : hG) : Prop :=
  (v9 = none → (wJ1_buildFromSorted_2_L3_b173 Q v0 v1 v3 v4 v5 v6 v7 v8 v12 G)) ∧ (∀ y1, v9 = some y1 → (hC G v12 = some (10, true) ∧ hlet (hsR G v12 2 (some y1)) fun G4 => hC G4 y1 = some (10, true) ∧ hlet (hsR G4 y1 4 (some v12)) fun G8 => wJ1_buildFromSorted_2_L3_b173 Q v0 v1 v3 v4 v5 v6 v7 v8 v12 G8))
def wJ1_buildFromSorted_2_L3_b128 (Q : hG → Option Nat → Prop) (v0 : Nat) (v1 : Int32) (v3 : Int32) (v4 : Int32) (v5 : Nat) (v6 : Option Nat) (v7 : Option Nat) (v8 : Int32) (v9 : Option Nat) (v10 : Option Nat) (v11 : Option Nat) (G : hG) : Prop :=
  ∀ q1, hfr G q1 → hlet (hnw G q1 10 0) fun G2 => wJ22_init (fun G6 => (v1 = v4 → (hC G6 q1 = some (10, true) ∧ hlet (hsI G6 q1 5 (0 : Int32)) fun G13 => wJ1_buildFromSorted_2_L3_b154 Q v0 v1 v3 v4 v5 v6 v7 v8 v9 q1 G13)) ∧ (¬ v1 = v4 → (wJ1_buildFromSorted_2_L3_b154 Q v0 v1 v3 v4 v5 v6 v7 v8 v9 q1 G6))) q1 v10 v11 none G2
def wJ1_buildFromSorted_2_L3_b45 (Q : hG → Option Nat → Prop) (v0 : Nat) (v1 : Int32) (v3 : Int32) (v4 : Int32) (v5 : Option Nat) (v6 : Option Nat) (v7 : Option Nat) (v8 : Int32) (v9 : Option Nat) (G : hG) : Prop :=
  (v5 = none → (False)) ∧ (∀ y1, v5 = some y1 → ((v7 = none → (hcl G y1 13 ∧ (wJ16_next (fun G5 z6 => (∀ y, z6 = some y → hcl G5 y 10) ∧ (∃ a13, z6 = some a13 ∧ (hcl G5 a13 10 ∧ (wJ22_getKey (fun G14 z15 => hcl G14 a13 10 ∧ (wJ22_getValue (fun G21 z22 => wJ1_buildFromSorted_2_L3_b128 Q v0 v1 v3 v4 y1 v6 none v8 v9 z15 z22 G21) a13 G14)) a13 G5)))) y1 G))) ∧ (∀ y3, v7 = some y3 → (hcl G y1 11 ∧ (wJ17_next (fun G28 z29 => wJ1_buildFromSorted_2_L3_b128 Q v0 v1 v3 v4 y1 v6 (some y3) v8 v9 z29 (some y3) G28) y1 G)))))
def wJ1_buildFromSorted_2_L3 (Q : hG → Option Nat → Prop) (v0 : Nat) (v1 : Int32) (v2 : Int32) (v3 : Int32) (v4 : Int32) (v5 : Option Nat) (v6 : Option Nat) (v7 : Option Nat) (G : hG) : Prop :=
  (v2 ≤ v3 → (hlet ((((v2 + v3)).toUInt32 >>> (((1 : Int32)).toUInt32 &&& Int32.toUInt32 31)).toInt32) fun x2 => (x2 ≤ v2 → (wJ1_buildFromSorted_2_L3_b45 Q v0 v1 v3 v4 v5 v6 v7 x2 none G)) ∧ (¬ x2 ≤ v2 → (hcl G v0 9 ∧ (wJ1_buildFromSorted_2_L2 (fun G6 z7 => wJ1_buildFromSorted_2_L3_b45 Q v0 v1 v3 v4 v5 v6 v7 x2 z7 G6) v0 (v1 + (1 : Int32)) v2 (x2 - (1 : Int32)) v4 v5 v6 v7 G))))) ∧ (¬ v2 ≤ v3 → (Q G none))
abbrev rmJ1_buildFromSorted_2_L3 : Room := { frames := 7, cells := 15, slots := 90, locals := 182 }
def wJ1_buildFromSorted_2_L4_b215 (Q : hG → Option Nat → Prop) (v12 : Nat) (G : hG) : Prop :=
  Q G (some v12)
def wJ1_buildFromSorted_2_L4_b173 (Q : hG → Option Nat → Prop) (v0 : Nat) (v1 : Int32) (v3 : Int32) (v4 : Int32) (v5 : Nat) (v6 : Option Nat) (v7 : Option Nat) (v8 : Int32) (v12 : Nat) (G : hG) : Prop :=
  (v3 ≤ v8 → (wJ1_buildFromSorted_2_L4_b215 Q v12 G)) ∧ (¬ v3 ≤ v8 → (hcl G v0 9 ∧ (wJ1_buildFromSorted_2_L3 (fun G2 z3 => hC G2 v12 = some (10, true) ∧ hlet (hsR G2 v12 3 z3) fun G10 => ∃ a13, z3 = some a13 ∧ (hC G10 a13 = some (10, true) ∧ hlet (hsR G10 a13 4 (some v12)) fun G15 => wJ1_buildFromSorted_2_L4_b215 Q v12 G15)) v0 (v1 + (1 : Int32)) (v8 + (1 : Int32)) v3 v4 (some v5) v6 v7 G)))
def wJ1_buildFromSorted_2_L4_b154 (Q : hG → Option Nat → Prop) (v0 : Nat) (v1 : Int32) (v3 : Int32) (v4 : Int32) (v5 : Nat) (v6 : Option Nat) (v7 : Option Nat) (v8 : Int32) (v9 : Option Nat) (v12 : Nat) (G : hG) : Prop :=
  (v9 = none → (wJ1_buildFromSorted_2_L4_b173 Q v0 v1 v3 v4 v5 v6 v7 v8 v12 G)) ∧ (∀ y1, v9 = some y1 → (hC G v12 = some (10, true) ∧ hlet (hsR G v12 2 (some y1)) fun G4 => hC G4 y1 = some (10, true) ∧ hlet (hsR G4 y1 4 (some v12)) fun G8 => wJ1_buildFromSorted_2_L4_b173 Q v0 v1 v3 v4 v5 v6 v7 v8 v12 G8))
def wJ1_buildFromSorted_2_L4_b128 (Q : hG → Option Nat → Prop) (v0 : Nat) (v1 : Int32) (v3 : Int32) (v4 : Int32) (v5 : Nat) (v6 : Option Nat) (v7 : Option Nat) (v8 : Int32) (v9 : Option Nat) (v10 : Option Nat) (v11 : Option Nat) (G : hG) : Prop :=
  ∀ q1, hfr G q1 → hlet (hnw G q1 10 0) fun G2 => wJ22_init (fun G6 => (v1 = v4 → (hC G6 q1 = some (10, true) ∧ hlet (hsI G6 q1 5 (0 : Int32)) fun G13 => wJ1_buildFromSorted_2_L4_b154 Q v0 v1 v3 v4 v5 v6 v7 v8 v9 q1 G13)) ∧ (¬ v1 = v4 → (wJ1_buildFromSorted_2_L4_b154 Q v0 v1 v3 v4 v5 v6 v7 v8 v9 q1 G6))) q1 v10 v11 none G2
def wJ1_buildFromSorted_2_L4_b45 (Q : hG → Option Nat → Prop) (v0 : Nat) (v1 : Int32) (v3 : Int32) (v4 : Int32) (v5 : Option Nat) (v6 : Option Nat) (v7 : Option Nat) (v8 : Int32) (v9 : Option Nat) (G : hG) : Prop :=
  (v5 = none → (False)) ∧ (∀ y1, v5 = some y1 → ((v7 = none → (hcl G y1 13 ∧ (wJ16_next (fun G5 z6 => (∀ y, z6 = some y → hcl G5 y 10) ∧ (∃ a13, z6 = some a13 ∧ (hcl G5 a13 10 ∧ (wJ22_getKey (fun G14 z15 => hcl G14 a13 10 ∧ (wJ22_getValue (fun G21 z22 => wJ1_buildFromSorted_2_L4_b128 Q v0 v1 v3 v4 y1 v6 none v8 v9 z15 z22 G21) a13 G14)) a13 G5)))) y1 G))) ∧ (∀ y3, v7 = some y3 → (hcl G y1 11 ∧ (wJ17_next (fun G28 z29 => wJ1_buildFromSorted_2_L4_b128 Q v0 v1 v3 v4 y1 v6 (some y3) v8 v9 z29 (some y3) G28) y1 G)))))
def wJ1_buildFromSorted_2_L4 (Q : hG → Option Nat → Prop) (v0 : Nat) (v1 : Int32) (v2 : Int32) (v3 : Int32) (v4 : Int32) (v5 : Option Nat) (v6 : Option Nat) (v7 : Option Nat) (G : hG) : Prop :=
  (v2 ≤ v3 → (hlet ((((v2 + v3)).toUInt32 >>> (((1 : Int32)).toUInt32 &&& Int32.toUInt32 31)).toInt32) fun x2 => (x2 ≤ v2 → (wJ1_buildFromSorted_2_L4_b45 Q v0 v1 v3 v4 v5 v6 v7 x2 none G)) ∧ (¬ x2 ≤ v2 → (hcl G v0 9 ∧ (wJ1_buildFromSorted_2_L3 (fun G6 z7 => wJ1_buildFromSorted_2_L4_b45 Q v0 v1 v3 v4 v5 v6 v7 x2 z7 G6) v0 (v1 + (1 : Int32)) v2 (x2 - (1 : Int32)) v4 v5 v6 v7 G))))) ∧ (¬ v2 ≤ v3 → (Q G none))
abbrev rmJ1_buildFromSorted_2_L4 : Room := { frames := 8, cells := 31, slots := 186, locals := 215 }
def wJ1_buildFromSorted_2_L5_b215 (Q : hG → Option Nat → Prop) (v12 : Nat) (G : hG) : Prop :=
  Q G (some v12)
def wJ1_buildFromSorted_2_L5_b173 (Q : hG → Option Nat → Prop) (v0 : Nat) (v1 : Int32) (v3 : Int32) (v4 : Int32) (v5 : Nat) (v6 : Option Nat) (v7 : Option Nat) (v8 : Int32) (v12 : Nat) (G : hG) : Prop :=
  (v3 ≤ v8 → (wJ1_buildFromSorted_2_L5_b215 Q v12 G)) ∧ (¬ v3 ≤ v8 → (hcl G v0 9 ∧ (wJ1_buildFromSorted_2_L4 (fun G2 z3 => hC G2 v12 = some (10, true) ∧ hlet (hsR G2 v12 3 z3) fun G10 => ∃ a13, z3 = some a13 ∧ (hC G10 a13 = some (10, true) ∧ hlet (hsR G10 a13 4 (some v12)) fun G15 => wJ1_buildFromSorted_2_L5_b215 Q v12 G15)) v0 (v1 + (1 : Int32)) (v8 + (1 : Int32)) v3 v4 (some v5) v6 v7 G)))
def wJ1_buildFromSorted_2_L5_b154 (Q : hG → Option Nat → Prop) (v0 : Nat) (v1 : Int32) (v3 : Int32) (v4 : Int32) (v5 : Nat) (v6 : Option Nat) (v7 : Option Nat) (v8 : Int32) (v9 : Option Nat) (v12 : Nat) (G : hG) : Prop :=
  (v9 = none → (wJ1_buildFromSorted_2_L5_b173 Q v0 v1 v3 v4 v5 v6 v7 v8 v12 G)) ∧ (∀ y1, v9 = some y1 → (hC G v12 = some (10, true) ∧ hlet (hsR G v12 2 (some y1)) fun G4 => hC G4 y1 = some (10, true) ∧ hlet (hsR G4 y1 4 (some v12)) fun G8 => wJ1_buildFromSorted_2_L5_b173 Q v0 v1 v3 v4 v5 v6 v7 v8 v12 G8))
def wJ1_buildFromSorted_2_L5_b128 (Q : hG → Option Nat → Prop) (v0 : Nat) (v1 : Int32) (v3 : Int32) (v4 : Int32) (v5 : Nat) (v6 : Option Nat) (v7 : Option Nat) (v8 : Int32) (v9 : Option Nat) (v10 : Option Nat) (v11 : Option Nat) (G : hG) : Prop :=
  ∀ q1, hfr G q1 → hlet (hnw G q1 10 0) fun G2 => wJ22_init (fun G6 => (v1 = v4 → (hC G6 q1 = some (10, true) ∧ hlet (hsI G6 q1 5 (0 : Int32)) fun G13 => wJ1_buildFromSorted_2_L5_b154 Q v0 v1 v3 v4 v5 v6 v7 v8 v9 q1 G13)) ∧ (¬ v1 = v4 → (wJ1_buildFromSorted_2_L5_b154 Q v0 v1 v3 v4 v5 v6 v7 v8 v9 q1 G6))) q1 v10 v11 none G2
def wJ1_buildFromSorted_2_L5_b45 (Q : hG → Option Nat → Prop) (v0 : Nat) (v1 : Int32) (v3 : Int32) (v4 : Int32) (v5 : Option Nat) (v6 : Option Nat) (v7 : Option Nat) (v8 : Int32) (v9 : Option Nat) (G : hG) : Prop :=
  (v5 = none → (False)) ∧ (∀ y1, v5 = some y1 → ((v7 = none → (hcl G y1 13 ∧ (wJ16_next (fun G5 z6 => (∀ y, z6 = some y → hcl G5 y 10) ∧ (∃ a13, z6 = some a13 ∧ (hcl G5 a13 10 ∧ (wJ22_getKey (fun G14 z15 => hcl G14 a13 10 ∧ (wJ22_getValue (fun G21 z22 => wJ1_buildFromSorted_2_L5_b128 Q v0 v1 v3 v4 y1 v6 none v8 v9 z15 z22 G21) a13 G14)) a13 G5)))) y1 G))) ∧ (∀ y3, v7 = some y3 → (hcl G y1 11 ∧ (wJ17_next (fun G28 z29 => wJ1_buildFromSorted_2_L5_b128 Q v0 v1 v3 v4 y1 v6 (some y3) v8 v9 z29 (some y3) G28) y1 G)))))
def wJ1_buildFromSorted_2_L5 (Q : hG → Option Nat → Prop) (v0 : Nat) (v1 : Int32) (v2 : Int32) (v3 : Int32) (v4 : Int32) (v5 : Option Nat) (v6 : Option Nat) (v7 : Option Nat) (G : hG) : Prop :=
  (v2 ≤ v3 → (hlet ((((v2 + v3)).toUInt32 >>> (((1 : Int32)).toUInt32 &&& Int32.toUInt32 31)).toInt32) fun x2 => (x2 ≤ v2 → (wJ1_buildFromSorted_2_L5_b45 Q v0 v1 v3 v4 v5 v6 v7 x2 none G)) ∧ (¬ x2 ≤ v2 → (hcl G v0 9 ∧ (wJ1_buildFromSorted_2_L4 (fun G6 z7 => wJ1_buildFromSorted_2_L5_b45 Q v0 v1 v3 v4 v5 v6 v7 x2 z7 G6) v0 (v1 + (1 : Int32)) v2 (x2 - (1 : Int32)) v4 v5 v6 v7 G))))) ∧ (¬ v2 ≤ v3 → (Q G none))
abbrev rmJ1_buildFromSorted_2_L5 : Room := { frames := 9, cells := 63, slots := 378, locals := 248 }
def wJ1_buildFromSorted (Q : hG → Prop) (v0 : Nat) (v1 : Int32) (v2 : Option Nat) (v3 : Option Nat) (v4 : Option Nat) (G : hG) : Prop :=
  hC G v0 = some (9, true) ∧ hlet (hsI G v0 4 v1) fun G2 => wJ1_computeRedLevel (fun G5 z6 => hcl G5 v0 9 ∧ (wJ1_buildFromSorted_2_L5 (fun G10 z11 => hC G10 v0 = some (9, true) ∧ hlet (hsR G10 v0 3 z11) fun G17 => Q G17) v0 (0 : Int32) (0 : Int32) (v1 - (1 : Int32)) z6 v2 v3 v4 G5)) v1 G2
abbrev rmJ1_buildFromSorted : Room := { frames := 10, cells := 63, slots := 378, locals := 281 }
def wJ15_hasNext_c13_b12 (Q : hG → Int32 → Prop) (s0 : Int32) (G : hG) : Prop :=
  hFt .boolean s0 ∧ Q G s0
def wJ15_hasNext_c13 (Q : hG → Int32 → Prop) (v0 : Nat) (G : hG) : Prop :=
  hcl G v0 13 ∧ hlet (hR G v0 0) fun y2 => (y2 = none → (wJ15_hasNext_c13_b12 Q (0 : Int32) G)) ∧ (∀ y3, y2 = some y3 → (wJ15_hasNext_c13_b12 Q (1 : Int32) G))
abbrev rmJ15_hasNext_c13 : Room := { frames := 0, cells := 0, slots := 0, locals := 0 }
def wJ0_putAll_c9 (Q : hG → Prop) (v0 : Nat) (v1 : Option Nat) (G : hG) : Prop :=
  ∃ a1, v1 = some a1 ∧ (hcl G a1 9 ∧ (wJ1_entrySet (fun G2 z3 => ∃ a8, z3 = some a8 ∧ (hcl G2 a8 16 ∧ (wJ14_iterator (fun G9 z10 => ∃ a16, z10 = some a16 ∧ (hcl G9 a16 13 ∧ (wJ15_hasNext_c13 (fun G17 z18 => (z18 = 0 → (Q G17)) ∧ (¬ z18 = 0 → (False))) a16 G9))) a8 G2))) a1 G))
abbrev rmJ0_putAll_c9 : Room := { frames := 5, cells := 2, slots := 5, locals := 94 }
def wJ1_putAll_b77 (Q : hG → Prop) (v0 : Nat) (v1 : Nat) (G : hG) : Prop :=
  hcl G v0 9 ∧ (wJ0_putAll_c9 (fun G1 => Q G1) v0 (some v1) G)
def wJ1_putAll (Q : hG → Prop) (v0 : Nat) (v1 : Option Nat) (G : hG) : Prop :=
  ∃ a1, v1 = some a1 ∧ (hcl G a1 9 ∧ (wJ1_size (fun G2 z3 => hcl G2 v0 9 ∧ (((hI G2 v0 4) = 0 → ((z3 = 0 → (wJ1_putAll_b77 Q v0 a1 G2)) ∧ (¬ z3 = 0 → (hcl G2 a1 9 ∧ (((1 : Int32) = 0 → (wJ1_putAll_b77 Q v0 a1 G2)) ∧ (¬ (1 : Int32) = 0 → (hcl G2 v0 9 ∧ hlet (hR G2 v0 2) fun y15 => hcl G2 a1 9 ∧ (hcl G2 a1 9 ∧ (wJ1_comparator (fun G17 z18 => wJ11_equals (fun G23 z24 => (z24 = 0 → (wJ1_putAll_b77 Q v0 a1 G23)) ∧ (¬ z24 = 0 → (hcl G23 v0 9 ∧ (hC G23 v0 = some (9, true) ∧ hlet (hsI G23 v0 5 ((hI G23 v0 5) + (1 : Int32))) fun G31 => hcl G31 a1 9 ∧ (wJ1_entrySet (fun G34 z35 => ∃ a40, z35 = some a40 ∧ (hcl G34 a40 16 ∧ (wJ14_iterator (fun G41 z42 => hcl G41 v0 9 ∧ (wJ1_buildFromSorted (fun G47 => Q G47) v0 z3 z42 none none G41)) a40 G34))) a1 G31))))) y15 z18 G17) a1 G2))))))))) ∧ (¬ (hI G2 v0 4) = 0 → (wJ1_putAll_b77 Q v0 a1 G2)))) a1 G))
abbrev rmJ1_putAll : Room := { frames := 11, cells := 65, slots := 383, locals := 305 }
def wJ4_size (Q : hG → Int32 → Prop) (v0 : Nat) (G : hG) : Prop :=
  hcl G v0 17 ∧ hlet (hR G v0 0) fun y2 => ∃ a3, y2 = some a3 ∧ (hcl G a3 9 ∧ (wJ1_size (fun G4 z5 => Q G4 z5) a3 G))
abbrev rmJ4_size : Room := { frames := 1, cells := 0, slots := 0, locals := 20 }
def wJ4_comparator (Q : hG → Option Nat → Prop) (v0 : Nat) (G : hG) : Prop :=
  hcl G v0 17 ∧ hlet (hR G v0 0) fun y2 => ∃ a3, y2 = some a3 ∧ (hcl G a3 9 ∧ (wJ1_comparator (fun G4 z5 => Q G4 z5) a3 G))
abbrev rmJ4_comparator : Room := { frames := 1, cells := 0, slots := 0, locals := 20 }
def wJ2_init_c14 (Q : hG → Prop) (v0 : Nat) (G : hG) : Prop :=
  Q G
abbrev rmJ2_init_c14 : Room := { frames := 1, cells := 0, slots := 0, locals := 12 }
def wJ3_init_c14 (Q : hG → Prop) (v0 : Nat) (G : hG) : Prop :=
  wJ2_init_c14 (fun G1 => Q G1) v0 G
abbrev rmJ3_init_c14 : Room := { frames := 2, cells := 0, slots := 0, locals := 32 }
def wJ18_init (Q : hG → Prop) (v0 : Nat) (v1 : Option Nat) (G : hG) : Prop :=
  wJ3_init_c14 (fun G1 => hC G1 v0 = some (14, true) ∧ hlet (hsR G1 v0 0 v1) fun G6 => Q G6) v0 G
abbrev rmJ18_init : Room := { frames := 3, cells := 0, slots := 0, locals := 52 }
def wJ1_navigableKeySet_b26 (Q : hG → Option Nat → Prop) (s0 : Nat) (G : hG) : Prop :=
  Q G (some s0)
def wJ1_navigableKeySet (Q : hG → Option Nat → Prop) (v0 : Nat) (G : hG) : Prop :=
  hcl G v0 9 ∧ hlet (hR G v0 7) fun y2 => (y2 = none → (∀ q6, hfr G q6 → hlet (hnw G q6 14 0) fun G7 => wJ18_init (fun G11 => hC G11 v0 = some (9, true) ∧ hlet (hsR G11 v0 7 (some q6)) fun G16 => wJ1_navigableKeySet_b26 Q q6 G16) q6 (some v0) G7)) ∧ (∀ y4, y2 = some y4 → (wJ1_navigableKeySet_b26 Q y4 G))
abbrev rmJ1_navigableKeySet : Room := { frames := 4, cells := 1, slots := 1, locals := 73 }
def wJ15_init_c11 (Q : hG → Prop) (v0 : Nat) (v1 : Nat) (v2 : Option Nat) (G : hG) : Prop :=
  hC G v0 = some (11, true) ∧ hlet (hsR G v0 3 (some v1)) fun G2 => hcl G2 v1 9 ∧ (hC G2 v0 = some (11, true) ∧ hlet (hsI G2 v0 2 (hI G2 v1 5)) fun G7 => hC G7 v0 = some (11, true) ∧ hlet (hsR G7 v0 1 none) fun G11 => hC G11 v0 = some (11, true) ∧ hlet (hsR G11 v0 0 v2) fun G15 => Q G15)
abbrev rmJ15_init_c11 : Room := { frames := 1, cells := 0, slots := 0, locals := 12 }
def wJ17_init (Q : hG → Prop) (v0 : Nat) (v1 : Nat) (v2 : Option Nat) (G : hG) : Prop :=
  wJ15_init_c11 (fun G1 => Q G1) v0 v1 v2 G
abbrev rmJ17_init : Room := { frames := 2, cells := 0, slots := 0, locals := 34 }
def wJ1_keyIterator (Q : hG → Option Nat → Prop) (v0 : Nat) (G : hG) : Prop :=
  ∀ q1, hfr G q1 → hlet (hnw G q1 11 0) fun G2 => hcl G2 v0 9 ∧ (wJ1_getFirstEntry (fun G6 z7 => wJ17_init (fun G12 => Q G12 (some q1)) q1 v0 z7 G6) v0 G2)
abbrev rmJ1_keyIterator : Room := { frames := 3, cells := 1, slots := 4, locals := 56 }
def wJ18_iterator (Q : hG → Option Nat → Prop) (v0 : Nat) (G : hG) : Prop :=
  hcl G v0 14 ∧ hlet (hR G v0 0) fun y2 => ∃ a3, y2 = some a3 ∧ (hcl G a3 9 ∧ (((1 : Int32) = 0 → (False)) ∧ (¬ (1 : Int32) = 0 → (hcl G v0 14 ∧ hlet (hR G v0 0) fun y7 => (∀ y, y7 = some y → hcl G y 9) ∧ (∃ a9, y7 = some a9 ∧ (hcl G a9 9 ∧ (wJ1_keyIterator (fun G10 z11 => Q G10 z11) a9 G)))))))
abbrev rmJ18_iterator : Room := { frames := 4, cells := 1, slots := 4, locals := 76 }
def wJ4_iterator (Q : hG → Option Nat → Prop) (v0 : Nat) (G : hG) : Prop :=
  hcl G v0 17 ∧ hlet (hR G v0 0) fun y2 => ∃ a3, y2 = some a3 ∧ (hcl G a3 9 ∧ (wJ1_navigableKeySet (fun G4 z5 => ∃ a10, z5 = some a10 ∧ (hcl G4 a10 14 ∧ (wJ18_iterator (fun G11 z12 => Q G11 z12) a10 G4))) a3 G))
abbrev rmJ4_iterator : Room := { frames := 5, cells := 2, slots := 5, locals := 96 }
def wJ1_addAllForTreeSet (Q : hG → Prop) (v0 : Nat) (v1 : Option Nat) (v2 : Option Nat) (G : hG) : Prop :=
  ∃ a1, v1 = some a1 ∧ (hcl G a1 17 ∧ (wJ4_size (fun G2 z3 => hcl G2 a1 17 ∧ (wJ4_iterator (fun G8 z9 => hcl G8 v0 9 ∧ (wJ1_buildFromSorted (fun G14 => Q G14) v0 z3 z9 none v2 G8)) a1 G2)) a1 G))
abbrev rmJ1_addAllForTreeSet : Room := { frames := 11, cells := 65, slots := 383, locals := 305 }
def wJ15_hasNext_c11_b12 (Q : hG → Int32 → Prop) (s0 : Int32) (G : hG) : Prop :=
  hFt .boolean s0 ∧ Q G s0
def wJ15_hasNext_c11 (Q : hG → Int32 → Prop) (v0 : Nat) (G : hG) : Prop :=
  hcl G v0 11 ∧ hlet (hR G v0 0) fun y2 => (y2 = none → (wJ15_hasNext_c11_b12 Q (0 : Int32) G)) ∧ (∀ y3, y2 = some y3 → (wJ15_hasNext_c11_b12 Q (1 : Int32) G))
abbrev rmJ15_hasNext_c11 : Room := { frames := 0, cells := 0, slots := 0, locals := 0 }
def wJ2_addAll_c17 (Q : hG → Int32 → Prop) (v0 : Nat) (v1 : Option Nat) (G : hG) : Prop :=
  ∃ a2, v1 = some a2 ∧ (hcl G a2 17 ∧ (wJ4_iterator (fun G3 z4 => ∃ a10, z4 = some a10 ∧ (hcl G3 a10 11 ∧ (wJ15_hasNext_c11 (fun G11 z12 => (z12 = 0 → (Q G11 (0 : Int32))) ∧ (¬ z12 = 0 → (False))) a10 G3))) a2 G))
abbrev rmJ2_addAll_c17 : Room := { frames := 6, cells := 2, slots := 5, locals := 116 }
def wJ4_addAll_b76 (Q : hG → Int32 → Prop) (v0 : Nat) (v1 : Option Nat) (G : hG) : Prop :=
  hcl G v0 17 ∧ (wJ2_addAll_c17 (fun G1 z2 => hFt .boolean z2 ∧ Q G1 z2) v0 v1 G)
def wJ4_addAll (Q : hG → Int32 → Prop) (v0 : Nat) (v1 : Option Nat) (G : hG) : Prop :=
  hcl G v0 17 ∧ hlet (hR G v0 0) fun y2 => ∃ a3, y2 = some a3 ∧ (hcl G a3 9 ∧ (wJ1_size (fun G4 z5 => (z5 = 0 → (∃ a11, v1 = some a11 ∧ (hcl G4 a11 17 ∧ (wJ4_size (fun G12 z13 => (z13 ≤ 0 → (wJ4_addAll_b76 Q v0 (some a11) G12)) ∧ (¬ z13 ≤ 0 → (hcl G12 a11 17 ∧ (((1 : Int32) = 0 → (wJ4_addAll_b76 Q v0 (some a11) G12)) ∧ (¬ (1 : Int32) = 0 → (hcl G12 v0 17 ∧ hlet (hR G12 v0 0) fun y22 => ∃ a24, y22 = some a24 ∧ (hcl G12 a24 9 ∧ (((1 : Int32) = 0 → (wJ4_addAll_b76 Q v0 (some a11) G12)) ∧ (¬ (1 : Int32) = 0 → (hcl G12 a24 9 ∧ (hcl G12 a11 17 ∧ (hcl G12 a11 17 ∧ (wJ4_comparator (fun G31 z32 => hcl G31 a24 9 ∧ (wJ1_comparator (fun G37 z38 => wJ11_equals (fun G43 z44 => (z44 = 0 → (wJ4_addAll_b76 Q v0 (some a11) G43)) ∧ (¬ z44 = 0 → (hcl G43 a24 9 ∧ (wJ1_addAllForTreeSet (fun G49 => Q G49 (1 : Int32)) a24 (some a11) (some (hK G43 0)) G43)))) z32 z38 G37) a24 G31)) a11 G12))))))))))))) a11 G4)))) ∧ (¬ z5 = 0 → (wJ4_addAll_b76 Q v0 v1 G4))) a3 G))
abbrev rmJ4_addAll : Room := { frames := 12, cells := 65, slots := 383, locals := 328 }
def wJ33_copyOf_3 (Q : hG → Option Nat → Prop) (v0 : Nat) (v1 : Int32) (v2 : Option Nat) (G : hG) : Prop :=
  (v2 = (some (hK G 50)) → (¬ v1 < 0 ∧ (Int32.toNatClampNeg v1) ≤ 64 ∧ ∀ q2, hfr G q2 → hlet (hnw G q2 103 (Int32.toNatClampNeg v1)) fun G3 => hcl G3 v0 103 ∧ (((hC G3 v0 = some (103, true) ∧ hC G3 q2 = some (103, true) ∧ ¬ (0 : Int32) < 0 ∧ ¬ (0 : Int32) < 0 ∧ ¬ (hMn (nI (hN G3 v0)) v1) < 0 ∧ (Int32.toNatClampNeg (0 : Int32)) + (Int32.toNatClampNeg (hMn (nI (hN G3 v0)) v1)) ≤ hN G3 v0 ∧ (Int32.toNatClampNeg (0 : Int32)) + (Int32.toNatClampNeg (hMn (nI (hN G3 v0)) v1)) ≤ hN G3 q2 ∧ (∀ i : Nat, i < (Int32.toNatClampNeg (hMn (nI (hN G3 v0)) v1)) → ∀ y : Nat, hR G3 v0 ((Int32.toNatClampNeg (0 : Int32)) + i) = some y → hOb G3 hNob y) ∧ hlet (hcpR G3 q2 (Int32.toNatClampNeg (0 : Int32)) (hR G3 v0) (Int32.toNatClampNeg (0 : Int32)) (Int32.toNatClampNeg (hMn (nI (hN G3 v0)) v1))) fun G11 => Q G11 (some q2)) ∨ (hC G3 v0 = some (103, false) ∧ hC G3 q2 = some (103, true) ∧ ¬ (0 : Int32) < 0 ∧ ¬ (0 : Int32) < 0 ∧ (hMn (nI (hN G3 v0)) v1) = 0 ∧ (Int32.toNatClampNeg (0 : Int32)) ≤ hN G3 v0 ∧ (Int32.toNatClampNeg (0 : Int32)) ≤ hN G3 q2 ∧ (Q G3 (some q2))))))) ∧ (¬ v2 = (some (hK G 50)) → (False))
abbrev rmJ33_copyOf_3 : Room := { frames := 1, cells := 1, slots := 64, locals := 48 }
def wJ33_copyOf_2 (Q : hG → Option Nat → Prop) (v0 : Nat) (v1 : Int32) (G : hG) : Prop :=
  (hC G v0 = some (103, true) ∨ v0 = hK G 1) ∧ (wJ33_copyOf_3 (fun G2 z3 => Q G2 z3) v0 v1 (some (hK G 50)) G)
abbrev rmJ33_copyOf_2 : Room := { frames := 2, cells := 1, slots := 64, locals := 71 }
def wJ6_toArray (Q : hG → Option Nat → Prop) (v0 : Nat) (G : hG) : Prop :=
  hcl G v0 18 ∧ hlet (hR G v0 1) fun y2 => hcl G v0 18 ∧ (∃ a4, y2 = some a4 ∧ (wJ33_copyOf_2 (fun G5 z6 => Q G5 z6) a4 (hI G v0 2) G))
abbrev rmJ6_toArray : Room := { frames := 3, cells := 1, slots := 64, locals := 92 }
def wJ25_newLength (Q : hG → Int32 → Prop) (v0 : Int32) (v1 : Int32) (v2 : Int32) (G : hG) : Prop :=
  ((v0 + (hMx v1 v2)) ≤ (0 : Int32) → (False)) ∧ (¬ (v0 + (hMx v1 v2)) ≤ (0 : Int32) → (((2147483639 : Int32) < (v0 + (hMx v1 v2)) → (False)) ∧ (¬ (2147483639 : Int32) < (v0 + (hMx v1 v2)) → (Q G (v0 + (hMx v1 v2))))))
abbrev rmJ25_newLength : Room := { frames := 1, cells := 0, slots := 0, locals := 21 }
def wJ6_grow_2_b20 (Q : hG → Option Nat → Prop) (v0 : Nat) (v1 : Int32) (v2 : Int32) (G : hG) : Prop :=
  wJ25_newLength (fun G1 z2 => hcl G1 v0 18 ∧ hlet (hR G1 v0 1) fun y8 => ∃ a9, y8 = some a9 ∧ (wJ33_copyOf_2 (fun G10 z11 => hC G10 v0 = some (18, true) ∧ hlet (hsR G10 v0 1 z11) fun G16 => Q G16 z11) a9 z2 G1)) v2 (v1 - v2) (v2 >>> ((1 : Int32) &&& 31)) G
def wJ6_grow_2 (Q : hG → Option Nat → Prop) (v0 : Nat) (v1 : Int32) (G : hG) : Prop :=
  hcl G v0 18 ∧ hlet (hR G v0 1) fun y2 => ∃ a3, y2 = some a3 ∧ (hcl G a3 103 ∧ ((0 < (nI (hN G a3)) → (wJ6_grow_2_b20 Q v0 v1 (nI (hN G a3)) G)) ∧ (¬ 0 < (nI (hN G a3)) → (hcl G v0 18 ∧ hlet (hR G v0 1) fun y8 => (y8 = (some (hK G 1)) → (¬ (hMx (10 : Int32) v1) < 0 ∧ (Int32.toNatClampNeg (hMx (10 : Int32) v1)) ≤ 40 ∧ ∀ q10, hfr G q10 → hlet (hnw G q10 103 (Int32.toNatClampNeg (hMx (10 : Int32) v1))) fun G11 => hC G11 v0 = some (18, true) ∧ hlet (hsR G11 v0 1 (some q10)) fun G18 => Q G18 (some q10))) ∧ (¬ y8 = (some (hK G 1)) → (wJ6_grow_2_b20 Q v0 v1 (nI (hN G a3)) G))))))
abbrev rmJ6_grow_2 : Room := { frames := 3, cells := 1, slots := 64, locals := 92 }
def wJ6_addAll_b56 (Q : hG → Int32 → Prop) (v0 : Nat) (v2 : Nat) (v3 : Int32) (v4 : Option Nat) (v5 : Int32) (G : hG) : Prop :=
  ∃ a1, v4 = some a1 ∧ (hC G v2 = some (103, true) ∧ hC G a1 = some (103, true) ∧ ¬ (0 : Int32) < 0 ∧ ¬ v5 < 0 ∧ ¬ v3 < 0 ∧ (Int32.toNatClampNeg (0 : Int32)) + (Int32.toNatClampNeg v3) ≤ hN G v2 ∧ (Int32.toNatClampNeg v5) + (Int32.toNatClampNeg v3) ≤ hN G a1 ∧ (∀ i : Nat, i < (Int32.toNatClampNeg v3) → ∀ y : Nat, hR G v2 ((Int32.toNatClampNeg (0 : Int32)) + i) = some y → hOb G hNob y) ∧ hlet (hcpR G a1 (Int32.toNatClampNeg v5) (hR G v2) (Int32.toNatClampNeg (0 : Int32)) (Int32.toNatClampNeg v3)) fun G2 => hC G2 v0 = some (18, true) ∧ hlet (hsI G2 v0 2 (v5 + v3)) fun G14 => Q G14 (1 : Int32))
def wJ6_addAll (Q : hG → Int32 → Prop) (v0 : Nat) (v1 : Option Nat) (G : hG) : Prop :=
  ∃ a1, v1 = some a1 ∧ (hcl G a1 18 ∧ (wJ6_toArray (fun G2 z3 => hcl G2 v0 18 ∧ (hC G2 v0 = some (18, true) ∧ hlet (hsI G2 v0 0 ((hI G2 v0 0) + (1 : Int32))) fun G11 => ∃ a14, z3 = some a14 ∧ (hcl G11 a14 103 ∧ (((nI (hN G11 a14)) = 0 → (Q G11 (0 : Int32))) ∧ (¬ (nI (hN G11 a14)) = 0 → (hcl G11 v0 18 ∧ hlet (hR G11 v0 1) fun y19 => ∃ a21, y19 = some a21 ∧ (hcl G11 a21 103 ∧ (hcl G11 v0 18 ∧ (((nI (hN G11 a14)) ≤ ((nI (hN G11 a21)) - (hI G11 v0 2)) → (wJ6_addAll_b56 Q v0 a14 (nI (hN G11 a14)) (some a21) (hI G11 v0 2) G11)) ∧ (¬ (nI (hN G11 a14)) ≤ ((nI (hN G11 a21)) - (hI G11 v0 2)) → (hcl G11 v0 18 ∧ (wJ6_grow_2 (fun G26 z27 => wJ6_addAll_b56 Q v0 a14 (nI (hN G11 a14)) z27 (hI G11 v0 2) G26) v0 ((hI G11 v0 2) + (nI (hN G11 a14))) G11)))))))))))) a1 G))
abbrev rmJ6_addAll : Room := { frames := 4, cells := 2, slots := 128, locals := 115 }
def wX3_take (Q : hG → Prop) (v0 : Nat) (v1 : Nat) (G : hG) : Prop :=
  hcl G v0 3 ∧ hlet (hR G v0 0) fun y2 => hcl G v1 3 ∧ hlet (hR G v1 0) fun y4 => ∃ a5, y2 = some a5 ∧ (hcl G a5 18 ∧ (wJ6_addAll (fun G6 z7 => Q G6) a5 y4 G))
abbrev rmX3_take : Room := { frames := 5, cells := 2, slots := 128, locals := 140 }
def wX2_copy (Q : hG → Option Nat → Prop) (v0 : Nat) (G : hG) : Prop :=
  ∀ q1, hfr G q1 → hlet (hnw G q1 2 0) fun G2 => hcl G2 v0 2 ∧ hlet (hR G2 v0 6) fun y7 => ∃ a8, y7 = some a8 ∧ (hC G2 a8 = some (100, true) ∧ hN G2 a8 ≤ 32 ∧ ∀ q11, hfr G2 q11 → hlet (hcpI (hnw G2 q11 100 (hN G2 a8)) q11 0 (hI G2 a8) 0 (hN G2 a8)) fun G13 => hC G13 q11 = some (100, true) ∧ (hcl G13 v0 2 ∧ hlet (hR G13 v0 7) fun y18 => ∃ a19, y18 = some a19 ∧ (hC G13 a19 = some (100, true) ∧ hN G13 a19 ≤ 32 ∧ ∀ q22, hfr G13 q22 → hlet (hcpI (hnw G13 q22 100 (hN G13 a19)) q22 0 (hI G13 a19) 0 (hN G13 a19)) fun G24 => hC G24 q22 = some (100, true) ∧ (wX2_init (fun G28 => hcl G28 q1 2 ∧ hlet (hR G28 q1 0) fun y34 => hcl G28 v0 2 ∧ hlet (hR G28 v0 0) fun y36 => ∃ a37, y34 = some a37 ∧ (hcl G28 a37 9 ∧ (wJ1_putAll (fun G38 => hcl G38 q1 2 ∧ hlet (hR G38 q1 1) fun y44 => hcl G38 v0 2 ∧ hlet (hR G38 v0 1) fun y46 => ∃ a47, y44 = some a47 ∧ (hcl G38 a47 17 ∧ (wJ4_addAll (fun G48 z49 => hcl G48 q1 2 ∧ hlet (hR G48 q1 2) fun y56 => hcl G48 v0 2 ∧ hlet (hR G48 v0 2) fun y58 => ∃ a59, y56 = some a59 ∧ (∃ a60, y58 = some a60 ∧ (hcl G48 a59 3 ∧ (wX3_take (fun G61 => hcl G61 q1 2 ∧ hlet (hR G61 q1 3) fun y67 => hcl G61 v0 2 ∧ hlet (hR G61 v0 3) fun y69 => ∃ a70, y67 = some a70 ∧ (∃ a71, y69 = some a71 ∧ (hcl G61 a70 3 ∧ (wX3_take (fun G72 => hcl G72 q1 2 ∧ hlet (hR G72 q1 4) fun y78 => hcl G72 v0 2 ∧ hlet (hR G72 v0 4) fun y80 => ∃ a81, y78 = some a81 ∧ (∃ a82, y80 = some a82 ∧ (hcl G72 a81 3 ∧ (wX3_take (fun G83 => hcl G83 q1 2 ∧ hlet (hR G83 q1 5) fun y89 => hcl G83 v0 2 ∧ hlet (hR G83 v0 5) fun y91 => ∃ a92, y89 = some a92 ∧ (∃ a93, y91 = some a93 ∧ (hcl G83 a92 3 ∧ (wX3_take (fun G94 => Q G94 (some q1)) a92 a93 G83)))) a81 a82 G72)))) a70 a71 G61)))) a59 a60 G48)))) a47 y46 G38))) a37 y36 G28))) q1 q11 q22 G24))))
abbrev rmX2_copy : Room := { frames := 13, cells := 152, slots := 1389, locals := 351 }
def wJ11_requireNonNull (Q : hG → Option Nat → Prop) (v0 : Option Nat) (G : hG) : Prop :=
  (v0 = none → (False)) ∧ (∀ y1, v0 = some y1 → (Q G (some y1)))
abbrev rmJ11_requireNonNull : Room := { frames := 0, cells := 0, slots := 0, locals := 0 }
def wX5_charAt (Q : hG → Int32 → Prop) (v0 : Nat) (v1 : Int32) (G : hG) : Prop :=
  hcl G v0 4 ∧ (hcl G v0 4 ∧ (hFt .char (((((((96 : Int64) + ((((hJ G v0 0)).toUInt64 >>> ((((5 : Int32) * (((hI G v0 1) - (1 : Int32)) - v1))).toInt64.toUInt64 &&& Int64.toUInt64 63)).toInt64 &&& (31 : Int64)))).toInt32)).toUInt32 % 65536).toInt32) ∧ Q G (((((((96 : Int64) + ((((hJ G v0 0)).toUInt64 >>> ((((5 : Int32) * (((hI G v0 1) - (1 : Int32)) - v1))).toInt64.toUInt64 &&& Int64.toUInt64 63)).toInt64 &&& (31 : Int64)))).toInt32)).toUInt32 % 65536).toInt32)))
abbrev rmX5_charAt : Room := { frames := 0, cells := 0, slots := 0, locals := 0 }
def wJ23_compare (Q : hG → Int32 → Prop) (v0 : Int32) (v1 : Int32) (G : hG) : Prop :=
  Q G (v0 - v1)
abbrev rmJ23_compare : Room := { frames := 0, cells := 0, slots := 0, locals := 0 }
def wJ20_compare_b19 (Q : hG → Int32 → Prop) (s0 : Int32) (G : hG) : Prop :=
  Q G s0
def wJ20_compare (Q : hG → Int32 → Prop) (v0 : Int32) (v1 : Int32) (G : hG) : Prop :=
  (v1 ≤ v0 → ((v0 = v1 → (wJ20_compare_b19 Q (0 : Int32) G)) ∧ (¬ v0 = v1 → (wJ20_compare_b19 Q (1 : Int32) G)))) ∧ (¬ v1 ≤ v0 → (wJ20_compare_b19 Q (-1 : Int32) G))
abbrev rmJ20_compare : Room := { frames := 0, cells := 0, slots := 0, locals := 0 }
def wX5_compareTo_2_b90 (Q : hG → Int32 → Prop) (s0 : Int32) (G : hG) : Prop :=
  Q G s0
def wX5_compareTo_2_b58 (Q : hG → Int32 → Prop) (v0 : Nat) (v1 : Nat) (v2 : Int32) (s0 : Int32) (G : hG) : Prop :=
  (s0 = 0 → (hcl G v0 4 ∧ (wX5_charAt (fun G3 z4 => hcl G3 v1 4 ∧ (wX5_charAt (fun G9 z10 => wJ23_compare (fun G15 z16 => wX5_compareTo_2_b90 Q z16 G15) z4 z10 G9) v1 v2 G3)) v0 v2 G))) ∧ (¬ s0 = 0 → (hcl G v0 4 ∧ (hcl G v1 4 ∧ (wJ20_compare (fun G22 z23 => wX5_compareTo_2_b90 Q z23 G22) (hI G v0 1) (hI G v1 1) G))))
def wX5_compareTo_2_b53 (Q : hG → Int32 → Prop) (v0 : Nat) (v1 : Nat) (v2 : Int32) (G : hG) : Prop :=
  wX5_compareTo_2_b58 Q v0 v1 v2 (1 : Int32) G
def wX5_compareTo_2_b37 (Q : hG → Int32 → Prop) (v0 : Nat) (v1 : Nat) (v2 : Int32) (G : hG) : Prop :=
  hcl G v0 4 ∧ ((v2 = (hI G v0 1) → (wX5_compareTo_2_b53 Q v0 v1 v2 G)) ∧ (¬ v2 = (hI G v0 1) → (hcl G v1 4 ∧ ((v2 = (hI G v1 1) → (wX5_compareTo_2_b53 Q v0 v1 v2 G)) ∧ (¬ v2 = (hI G v1 1) → (wX5_compareTo_2_b58 Q v0 v1 v2 (0 : Int32) G))))))
def wX5_compareTo_2_b2 (Q : hG → Int32 → Prop) (r2 : Nat → Nat → Int32 → hG → Prop) (v0 : Nat) (v1 : Nat) (v2 : Int32) (G : hG) : Prop :=
  hcl G v0 4 ∧ (((hI G v0 1) ≤ v2 → (wX5_compareTo_2_b37 Q v0 v1 v2 G)) ∧ (¬ (hI G v0 1) ≤ v2 → (hcl G v1 4 ∧ (((hI G v1 1) ≤ v2 → (wX5_compareTo_2_b37 Q v0 v1 v2 G)) ∧ (¬ (hI G v1 1) ≤ v2 → (hcl G v0 4 ∧ (wX5_charAt (fun G5 z6 => hcl G5 v1 4 ∧ (wX5_charAt (fun G11 z12 => (z6 = z12 → (r2 v0 v1 (v2 + (1 : Int32)) G11)) ∧ (¬ z6 = z12 → (wX5_compareTo_2_b37 Q v0 v1 v2 G11))) v1 v2 G5)) v0 v2 G)))))))
def wX5_compareTo_2_l2 (Q : hG → Int32 → Prop) (n : Nat) : Nat → Nat → Int32 → hG → Prop := Nat.rec (motive := fun _ => Nat → Nat → Int32 → hG → Prop) (fun _ _ _ _ => False) (fun _ ih => wX5_compareTo_2_b2 Q ih) n
def wX5_compareTo_2 (Q : hG → Int32 → Prop) (v0 : Nat) (v1 : Nat) (G : hG) : Prop :=
  ∃ n, wX5_compareTo_2_l2 Q n v0 v1 (0 : Int32) G
abbrev rmX5_compareTo_2 : Room := { frames := 1, cells := 0, slots := 0, locals := 21 }
def wX5_compareTo (Q : hG → Int32 → Prop) (v0 : Nat) (v1 : Option Nat) (G : hG) : Prop :=
  (∀ y, v1 = some y → hcl G y 4) ∧ (∃ a2, v1 = some a2 ∧ (hcl G v0 4 ∧ (wX5_compareTo_2 (fun G3 z4 => Q G3 z4) v0 a2 G)))
abbrev rmX5_compareTo : Room := { frames := 2, cells := 0, slots := 0, locals := 44 }
def wJ1_getEntry_b72 (Q : hG → Option Nat → Prop) (r28 : Option Nat → Option Nat → hG → Prop) (v2 : Nat) (v3 : Option Nat) (G : hG) : Prop :=
  r28 (some v2) v3 G
def wJ1_getEntry_b28 (Q : hG → Option Nat → Prop) (r28 : Option Nat → Option Nat → hG → Prop) (v2 : Option Nat) (v3 : Option Nat) (G : hG) : Prop :=
  (v3 = none → (Q G none)) ∧ (∀ y1, v3 = some y1 → (hcl G y1 10 ∧ hlet (hR G y1 0) fun y4 => ∃ a5, v2 = some a5 ∧ (hcl G a5 4 ∧ (wX5_compareTo (fun G6 z7 => (0 ≤ z7 → ((z7 ≤ 0 → (Q G6 (some y1))) ∧ (¬ z7 ≤ 0 → (hcl G6 y1 10 ∧ hlet (hR G6 y1 3) fun y16 => wJ1_getEntry_b72 Q r28 a5 y16 G6)))) ∧ (¬ 0 ≤ z7 → (hcl G6 y1 10 ∧ hlet (hR G6 y1 2) fun y19 => wJ1_getEntry_b72 Q r28 a5 y19 G6))) a5 y4 G))))
def wJ1_getEntry_l28 (Q : hG → Option Nat → Prop) (n : Nat) : Option Nat → Option Nat → hG → Prop := Nat.rec (motive := fun _ => Option Nat → Option Nat → hG → Prop) (fun _ _ _ => False) (fun _ ih => wJ1_getEntry_b28 Q ih) n
def wJ1_getEntry (Q : hG → Option Nat → Prop) (v0 : Nat) (v1 : Option Nat) (G : hG) : Prop :=
  hcl G v0 9 ∧ hlet (hR G v0 2) fun y2 => (y2 = none → (wJ11_requireNonNull (fun G5 z6 => (∀ y, v1 = some y → hcl G5 y 4) ∧ (hcl G5 v0 9 ∧ hlet (hR G5 v0 3) fun y13 => ∃ n, wJ1_getEntry_l28 Q n v1 y13 G5)) v1 G)) ∧ (∀ y3, y2 = some y3 → (False))
abbrev rmJ1_getEntry : Room := { frames := 3, cells := 0, slots := 0, locals := 65 }
def wJ1_containsKey_b13 (Q : hG → Int32 → Prop) (s0 : Int32) (G : hG) : Prop :=
  hFt .boolean s0 ∧ Q G s0
def wJ1_containsKey (Q : hG → Int32 → Prop) (v0 : Nat) (v1 : Option Nat) (G : hG) : Prop :=
  hcl G v0 9 ∧ (wJ1_getEntry (fun G1 z2 => (z2 = none → (wJ1_containsKey_b13 Q (0 : Int32) G1)) ∧ (∀ y7, z2 = some y7 → (wJ1_containsKey_b13 Q (1 : Int32) G1))) v0 v1 G)
abbrev rmJ1_containsKey : Room := { frames := 4, cells := 0, slots := 0, locals := 89 }
def wX1_requireState (Q : hG → Prop) (X : Bool → hG → Prop) (v0 : Int32) (v1 : Nat) (G : hG) : Prop :=
  (v0 = 0 → (X true G)) ∧ (¬ v0 = 0 → (Q G))
abbrev rmX1_requireState : Room := { frames := 6, cells := 1, slots := 6, locals := 90 }
def wJ19_init_c22 (Q : hG → Prop) (v0 : Nat) (G : hG) : Prop :=
  Q G
abbrev rmJ19_init_c22 : Room := { frames := 1, cells := 0, slots := 0, locals := 12 }
def wJ20_init (Q : hG → Prop) (v0 : Nat) (v1 : Int32) (G : hG) : Prop :=
  wJ19_init_c22 (fun G1 => hC G1 v0 = some (22, true) ∧ hlet (hsI G1 v0 0 v1) fun G6 => Q G6) v0 G
abbrev rmJ20_init : Room := { frames := 2, cells := 0, slots := 0, locals := 32 }
def wJ20_valueOf_b23 (Q : hG → Option Nat → Prop) (v0 : Int32) (G : hG) : Prop :=
  ∀ q1, hfr G q1 → hlet (hnw G q1 22 0) fun G2 => wJ20_init (fun G6 => Q G6 (some q1)) q1 v0 G2
def wJ20_valueOf (Q : hG → Option Nat → Prop) (v0 : Int32) (G : hG) : Prop :=
  (v0 < (-128 : Int32) → (wJ20_valueOf_b23 Q v0 G)) ∧ (¬ v0 < (-128 : Int32) → (((127 : Int32) < v0 → (wJ20_valueOf_b23 Q v0 G)) ∧ (¬ (127 : Int32) < v0 → (hC G (hK G 2) = some (105, false) ∧ vp_in (v0 + (128 : Int32)) (hN G (hK G 2)) ∧ hlet (hR G (hK G 2) (Int32.toNatClampNeg (v0 + (128 : Int32)))) fun y5 => Q G y5))))
abbrev rmJ20_valueOf : Room := { frames := 3, cells := 1, slots := 1, locals := 53 }
def wJ1_compare (Q : hG → Int32 → Prop) (v0 : Nat) (v1 : Option Nat) (v2 : Option Nat) (G : hG) : Prop :=
  hcl G v0 9 ∧ hlet (hR G v0 2) fun y2 => (y2 = none → ((∀ y, v1 = some y → hcl G y 4) ∧ (∃ a6, v1 = some a6 ∧ (hcl G a6 4 ∧ (wX5_compareTo (fun G7 z8 => Q G7 z8) a6 v2 G))))) ∧ (∀ y3, y2 = some y3 → (False))
abbrev rmJ1_compare : Room := { frames := 3, cells := 0, slots := 0, locals := 65 }
def wJ1_addEntryToEmptyMap (Q : hG → Prop) (v0 : Nat) (v1 : Option Nat) (v2 : Option Nat) (G : hG) : Prop :=
  hcl G v0 9 ∧ (wJ1_compare (fun G1 z2 => ∀ q7, hfr G1 q7 → hlet (hnw G1 q7 10 0) fun G8 => wJ22_init (fun G12 => hC G12 v0 = some (9, true) ∧ hlet (hsR G12 v0 3 (some q7)) fun G17 => hC G17 v0 = some (9, true) ∧ hlet (hsI G17 v0 4 (1 : Int32)) fun G21 => hcl G21 v0 9 ∧ (hC G21 v0 = some (9, true) ∧ hlet (hsI G21 v0 5 ((hI G21 v0 5) + (1 : Int32))) fun G26 => Q G26)) q7 v1 v2 none G8) v0 v1 v1 G)
abbrev rmJ1_addEntryToEmptyMap : Room := { frames := 4, cells := 1, slots := 6, locals := 87 }
def wJ1_parentOf_b12 (Q : hG → Option Nat → Prop) (s0 : Option Nat) (G : hG) : Prop :=
  Q G s0
def wJ1_parentOf (Q : hG → Option Nat → Prop) (v0 : Option Nat) (G : hG) : Prop :=
  (v0 = none → (wJ1_parentOf_b12 Q none G)) ∧ (∀ y1, v0 = some y1 → (hcl G y1 10 ∧ hlet (hR G y1 4) fun y4 => wJ1_parentOf_b12 Q y4 G))
abbrev rmJ1_parentOf : Room := { frames := 0, cells := 0, slots := 0, locals := 0 }
def wJ1_leftOf_b12 (Q : hG → Option Nat → Prop) (s0 : Option Nat) (G : hG) : Prop :=
  Q G s0
def wJ1_leftOf (Q : hG → Option Nat → Prop) (v0 : Option Nat) (G : hG) : Prop :=
  (v0 = none → (wJ1_leftOf_b12 Q none G)) ∧ (∀ y1, v0 = some y1 → (hcl G y1 10 ∧ hlet (hR G y1 2) fun y4 => wJ1_leftOf_b12 Q y4 G))
abbrev rmJ1_leftOf : Room := { frames := 0, cells := 0, slots := 0, locals := 0 }
def wJ1_colorOf_b12 (Q : hG → Int32 → Prop) (s0 : Int32) (G : hG) : Prop :=
  hFt .boolean s0 ∧ Q G s0
def wJ1_colorOf (Q : hG → Int32 → Prop) (v0 : Option Nat) (G : hG) : Prop :=
  (v0 = none → (wJ1_colorOf_b12 Q (1 : Int32) G)) ∧ (∀ y1, v0 = some y1 → (hcl G y1 10 ∧ (wJ1_colorOf_b12 Q (hI G y1 5) G)))
abbrev rmJ1_colorOf : Room := { frames := 0, cells := 0, slots := 0, locals := 0 }
def wJ1_rotateRight_b95 (Q : hG → Prop)  (G : hG) : Prop :=
  Q G
def wJ1_rotateRight_b85 (Q : hG → Prop) (v1 : Nat) (v2 : Nat) (G : hG) : Prop :=
  hC G v2 = some (10, true) ∧ hlet (hsR G v2 3 (some v1)) fun G2 => hC G2 v1 = some (10, true) ∧ hlet (hsR G2 v1 4 (some v2)) fun G6 => wJ1_rotateRight_b95 Q G6
def wJ1_rotateRight_b32 (Q : hG → Prop) (v0 : Nat) (v1 : Nat) (v2 : Nat) (G : hG) : Prop :=
  hcl G v1 10 ∧ hlet (hR G v1 4) fun y2 => hC G v2 = some (10, true) ∧ hlet (hsR G v2 4 y2) fun G4 => hcl G4 v1 10 ∧ hlet (hR G4 v1 4) fun y8 => (y8 = none → (hC G4 v0 = some (9, true) ∧ hlet (hsR G4 v0 3 (some v2)) fun G12 => wJ1_rotateRight_b85 Q v1 v2 G12)) ∧ (∀ y9, y8 = some y9 → (hcl G4 v1 10 ∧ hlet (hR G4 v1 4) fun y16 => ∃ a17, y16 = some a17 ∧ (hcl G4 a17 10 ∧ hlet (hR G4 a17 3) fun y19 => (y19 = (some v1) → (hcl G4 v1 10 ∧ hlet (hR G4 v1 4) fun y29 => ∃ a30, y29 = some a30 ∧ (hC G4 a30 = some (10, true) ∧ hlet (hsR G4 a30 3 (some v2)) fun G32 => wJ1_rotateRight_b85 Q v1 v2 G32))) ∧ (¬ y19 = (some v1) → (hcl G4 v1 10 ∧ hlet (hR G4 v1 4) fun y22 => ∃ a23, y22 = some a23 ∧ (hC G4 a23 = some (10, true) ∧ hlet (hsR G4 a23 2 (some v2)) fun G25 => wJ1_rotateRight_b85 Q v1 v2 G25))))))
def wJ1_rotateRight (Q : hG → Prop) (v0 : Nat) (v1 : Option Nat) (G : hG) : Prop :=
  (v1 = none → (wJ1_rotateRight_b95 Q G)) ∧ (∀ y1, v1 = some y1 → (hcl G y1 10 ∧ hlet (hR G y1 2) fun y4 => ∃ a6, y4 = some a6 ∧ (hcl G a6 10 ∧ hlet (hR G a6 3) fun y8 => hC G y1 = some (10, true) ∧ hlet (hsR G y1 2 y8) fun G10 => hcl G10 a6 10 ∧ hlet (hR G10 a6 3) fun y14 => (y14 = none → (wJ1_rotateRight_b32 Q v0 y1 a6 G10)) ∧ (∀ y15, y14 = some y15 → (hcl G10 a6 10 ∧ hlet (hR G10 a6 3) fun y18 => ∃ a19, y18 = some a19 ∧ (hC G10 a19 = some (10, true) ∧ hlet (hsR G10 a19 4 (some y1)) fun G21 => wJ1_rotateRight_b32 Q v0 y1 a6 G21))))))
abbrev rmJ1_rotateRight : Room := { frames := 0, cells := 0, slots := 0, locals := 0 }
def wJ1_setColor_b9 (Q : hG → Prop)  (G : hG) : Prop :=
  Q G
def wJ1_setColor (Q : hG → Prop) (v0 : Option Nat) (v1 : Int32) (G : hG) : Prop :=
  (v0 = none → (wJ1_setColor_b9 Q G)) ∧ (∀ y1, v0 = some y1 → (hC G y1 = some (10, true) ∧ hFt .boolean v1 ∧ hlet (hsI G y1 5 v1) fun G4 => wJ1_setColor_b9 Q G4))
abbrev rmJ1_setColor : Room := { frames := 0, cells := 0, slots := 0, locals := 0 }
def wJ1_rightOf_b12 (Q : hG → Option Nat → Prop) (s0 : Option Nat) (G : hG) : Prop :=
  Q G s0
def wJ1_rightOf (Q : hG → Option Nat → Prop) (v0 : Option Nat) (G : hG) : Prop :=
  (v0 = none → (wJ1_rightOf_b12 Q none G)) ∧ (∀ y1, v0 = some y1 → (hcl G y1 10 ∧ hlet (hR G y1 3) fun y4 => wJ1_rightOf_b12 Q y4 G))
abbrev rmJ1_rightOf : Room := { frames := 0, cells := 0, slots := 0, locals := 0 }
def wJ1_rotateLeft_b95 (Q : hG → Prop)  (G : hG) : Prop :=
  Q G
def wJ1_rotateLeft_b85 (Q : hG → Prop) (v1 : Nat) (v2 : Nat) (G : hG) : Prop :=
  hC G v2 = some (10, true) ∧ hlet (hsR G v2 2 (some v1)) fun G2 => hC G2 v1 = some (10, true) ∧ hlet (hsR G2 v1 4 (some v2)) fun G6 => wJ1_rotateLeft_b95 Q G6
def wJ1_rotateLeft_b32 (Q : hG → Prop) (v0 : Nat) (v1 : Nat) (v2 : Nat) (G : hG) : Prop :=
  hcl G v1 10 ∧ hlet (hR G v1 4) fun y2 => hC G v2 = some (10, true) ∧ hlet (hsR G v2 4 y2) fun G4 => hcl G4 v1 10 ∧ hlet (hR G4 v1 4) fun y8 => (y8 = none → (hC G4 v0 = some (9, true) ∧ hlet (hsR G4 v0 3 (some v2)) fun G12 => wJ1_rotateLeft_b85 Q v1 v2 G12)) ∧ (∀ y9, y8 = some y9 → (hcl G4 v1 10 ∧ hlet (hR G4 v1 4) fun y16 => ∃ a17, y16 = some a17 ∧ (hcl G4 a17 10 ∧ hlet (hR G4 a17 2) fun y19 => (y19 = (some v1) → (hcl G4 v1 10 ∧ hlet (hR G4 v1 4) fun y29 => ∃ a30, y29 = some a30 ∧ (hC G4 a30 = some (10, true) ∧ hlet (hsR G4 a30 2 (some v2)) fun G32 => wJ1_rotateLeft_b85 Q v1 v2 G32))) ∧ (¬ y19 = (some v1) → (hcl G4 v1 10 ∧ hlet (hR G4 v1 4) fun y22 => ∃ a23, y22 = some a23 ∧ (hC G4 a23 = some (10, true) ∧ hlet (hsR G4 a23 3 (some v2)) fun G25 => wJ1_rotateLeft_b85 Q v1 v2 G25))))))
def wJ1_rotateLeft (Q : hG → Prop) (v0 : Nat) (v1 : Option Nat) (G : hG) : Prop :=
  (v1 = none → (wJ1_rotateLeft_b95 Q G)) ∧ (∀ y1, v1 = some y1 → (hcl G y1 10 ∧ hlet (hR G y1 3) fun y4 => ∃ a6, y4 = some a6 ∧ (hcl G a6 10 ∧ hlet (hR G a6 2) fun y8 => hC G y1 = some (10, true) ∧ hlet (hsR G y1 3 y8) fun G10 => hcl G10 a6 10 ∧ hlet (hR G10 a6 2) fun y14 => (y14 = none → (wJ1_rotateLeft_b32 Q v0 y1 a6 G10)) ∧ (∀ y15, y14 = some y15 → (hcl G10 a6 10 ∧ hlet (hR G10 a6 2) fun y18 => ∃ a19, y18 = some a19 ∧ (hC G10 a19 = some (10, true) ∧ hlet (hsR G10 a19 4 (some y1)) fun G21 => wJ1_rotateLeft_b32 Q v0 y1 a6 G21))))))
abbrev rmJ1_rotateLeft : Room := { frames := 0, cells := 0, slots := 0, locals := 0 }
def wJ1_fixAfterInsertion_b148 (Q : hG → Prop) (r5 : Nat → Option Nat → hG → Prop) (v0 : Nat) (v1 : Option Nat) (G : hG) : Prop :=
  r5 v0 v1 G
def wJ1_fixAfterInsertion_b118 (Q : hG → Prop) (r5 : Nat → Option Nat → hG → Prop) (v0 : Nat) (v1 : Option Nat) (G : hG) : Prop :=
  wJ1_parentOf (fun G1 z2 => wJ1_setColor (fun G6 => wJ1_parentOf (fun G10 z11 => wJ1_parentOf (fun G15 z16 => wJ1_setColor (fun G20 => wJ1_parentOf (fun G24 z25 => wJ1_parentOf (fun G29 z30 => hcl G29 v0 9 ∧ (wJ1_rotateRight (fun G34 => wJ1_fixAfterInsertion_b148 Q r5 v0 v1 G34) v0 z30 G29)) z25 G24) v1 G20) z16 (0 : Int32) G15) z11 G10) v1 G6) z2 (1 : Int32) G1) v1 G
def wJ1_fixAfterInsertion_b255 (Q : hG → Prop) (r5 : Nat → Option Nat → hG → Prop) (v0 : Nat) (v1 : Option Nat) (G : hG) : Prop :=
  r5 v0 v1 G
def wJ1_fixAfterInsertion_b225 (Q : hG → Prop) (r5 : Nat → Option Nat → hG → Prop) (v0 : Nat) (v1 : Option Nat) (G : hG) : Prop :=
  wJ1_parentOf (fun G1 z2 => wJ1_setColor (fun G6 => wJ1_parentOf (fun G10 z11 => wJ1_parentOf (fun G15 z16 => wJ1_setColor (fun G20 => wJ1_parentOf (fun G24 z25 => wJ1_parentOf (fun G29 z30 => hcl G29 v0 9 ∧ (wJ1_rotateLeft (fun G34 => wJ1_fixAfterInsertion_b255 Q r5 v0 v1 G34) v0 z30 G29)) z25 G24) v1 G20) z16 (0 : Int32) G15) z11 G10) v1 G6) z2 (1 : Int32) G1) v1 G
def wJ1_fixAfterInsertion_b258 (Q : hG → Prop) (v0 : Nat) (G : hG) : Prop :=
  hcl G v0 9 ∧ hlet (hR G v0 3) fun y2 => ∃ a3, y2 = some a3 ∧ (hC G a3 = some (10, true) ∧ hlet (hsI G a3 5 (1 : Int32)) fun G5 => Q G5)
def wJ1_fixAfterInsertion_b5 (Q : hG → Prop) (r5 : Nat → Option Nat → hG → Prop) (v0 : Nat) (v1 : Option Nat) (G : hG) : Prop :=
  (v1 = none → (wJ1_fixAfterInsertion_b258 Q v0 G)) ∧ (∀ y1, v1 = some y1 → (hcl G v0 9 ∧ hlet (hR G v0 3) fun y4 => ((some y1) = y4 → (wJ1_fixAfterInsertion_b258 Q v0 G)) ∧ (¬ (some y1) = y4 → (hcl G y1 10 ∧ hlet (hR G y1 4) fun y7 => ∃ a8, y7 = some a8 ∧ (hcl G a8 10 ∧ (((hI G a8 5) = 0 → (wJ1_parentOf (fun G11 z12 => wJ1_parentOf (fun G16 z17 => wJ1_parentOf (fun G21 z22 => wJ1_leftOf (fun G26 z27 => (z12 = z27 → (wJ1_parentOf (fun G114 z115 => wJ1_parentOf (fun G119 z120 => wJ1_rightOf (fun G124 z125 => wJ1_colorOf (fun G130 z131 => (z131 = 0 → (wJ1_parentOf (fun G158 z159 => wJ1_setColor (fun G163 => wJ1_setColor (fun G167 => wJ1_parentOf (fun G171 z172 => wJ1_parentOf (fun G176 z177 => wJ1_setColor (fun G181 => wJ1_parentOf (fun G185 z186 => wJ1_parentOf (fun G190 z191 => wJ1_fixAfterInsertion_b148 Q r5 v0 z191 G190) z186 G185) (some y1) G181) z177 (0 : Int32) G176) z172 G171) (some y1) G167) z125 (1 : Int32) G163) z159 (1 : Int32) G158) (some y1) G130)) ∧ (¬ z131 = 0 → (wJ1_parentOf (fun G136 z137 => wJ1_rightOf (fun G141 z142 => ((some y1) = z142 → (wJ1_parentOf (fun G147 z148 => hcl G147 v0 9 ∧ (wJ1_rotateLeft (fun G153 => wJ1_fixAfterInsertion_b118 Q r5 v0 z148 G153) v0 z148 G147)) (some y1) G141)) ∧ (¬ (some y1) = z142 → (wJ1_fixAfterInsertion_b118 Q r5 v0 (some y1) G141))) z137 G136) (some y1) G130))) z125 G124) z120 G119) z115 G114) (some y1) G26)) ∧ (¬ z12 = z27 → (wJ1_parentOf (fun G32 z33 => wJ1_parentOf (fun G37 z38 => wJ1_leftOf (fun G42 z43 => wJ1_colorOf (fun G48 z49 => (z49 = 0 → (wJ1_parentOf (fun G76 z77 => wJ1_setColor (fun G81 => wJ1_setColor (fun G85 => wJ1_parentOf (fun G89 z90 => wJ1_parentOf (fun G94 z95 => wJ1_setColor (fun G99 => wJ1_parentOf (fun G103 z104 => wJ1_parentOf (fun G108 z109 => wJ1_fixAfterInsertion_b255 Q r5 v0 z109 G108) z104 G103) (some y1) G99) z95 (0 : Int32) G94) z90 G89) (some y1) G85) z43 (1 : Int32) G81) z77 (1 : Int32) G76) (some y1) G48)) ∧ (¬ z49 = 0 → (wJ1_parentOf (fun G54 z55 => wJ1_leftOf (fun G59 z60 => ((some y1) = z60 → (wJ1_parentOf (fun G65 z66 => hcl G65 v0 9 ∧ (wJ1_rotateRight (fun G71 => wJ1_fixAfterInsertion_b225 Q r5 v0 z66 G71) v0 z66 G65)) (some y1) G59)) ∧ (¬ (some y1) = z60 → (wJ1_fixAfterInsertion_b225 Q r5 v0 (some y1) G59))) z55 G54) (some y1) G48))) z43 G42) z38 G37) z33 G32) (some y1) G26))) z22 G21) z17 G16) (some y1) G11) (some y1) G)) ∧ (¬ (hI G a8 5) = 0 → (wJ1_fixAfterInsertion_b258 Q v0 G))))))))
def wJ1_fixAfterInsertion_l5 (Q : hG → Prop) (n : Nat) : Nat → Option Nat → hG → Prop := Nat.rec (motive := fun _ => Nat → Option Nat → hG → Prop) (fun _ _ _ => False) (fun _ ih => wJ1_fixAfterInsertion_b5 Q ih) n
def wJ1_fixAfterInsertion (Q : hG → Prop) (v0 : Nat) (v1 : Option Nat) (G : hG) : Prop :=
  ∃ a1, v1 = some a1 ∧ (hC G a1 = some (10, true) ∧ hlet (hsI G a1 5 (0 : Int32)) fun G3 => ∃ n, wJ1_fixAfterInsertion_l5 Q n v0 (some a1) G3)
abbrev rmJ1_fixAfterInsertion : Room := { frames := 1, cells := 0, slots := 0, locals := 22 }
def wJ1_addEntry_b32 (Q : hG → Prop) (v0 : Nat) (v5 : Nat) (G : hG) : Prop :=
  hcl G v0 9 ∧ (wJ1_fixAfterInsertion (fun G1 => hcl G1 v0 9 ∧ (hC G1 v0 = some (9, true) ∧ hlet (hsI G1 v0 4 ((hI G1 v0 4) + (1 : Int32))) fun G8 => hcl G8 v0 9 ∧ (hC G8 v0 = some (9, true) ∧ hlet (hsI G8 v0 5 ((hI G8 v0 5) + (1 : Int32))) fun G13 => Q G13))) v0 (some v5) G)
def wJ1_addEntry (Q : hG → Prop) (v0 : Nat) (v1 : Option Nat) (v2 : Option Nat) (v3 : Option Nat) (v4 : Int32) (G : hG) : Prop :=
  ∀ q1, hfr G q1 → hlet (hnw G q1 10 0) fun G2 => wJ22_init (fun G6 => (v4 = 0 → (∃ a12, v3 = some a12 ∧ (hC G6 a12 = some (10, true) ∧ hlet (hsR G6 a12 3 (some q1)) fun G14 => wJ1_addEntry_b32 Q v0 q1 G14))) ∧ (¬ v4 = 0 → (∃ a17, v3 = some a17 ∧ (hC G6 a17 = some (10, true) ∧ hlet (hsR G6 a17 2 (some q1)) fun G19 => wJ1_addEntry_b32 Q v0 q1 G19)))) q1 v1 v2 v3 G2
abbrev rmJ1_addEntry : Room := { frames := 2, cells := 1, slots := 6, locals := 44 }
def wJ1_put_2_b193 (Q : hG → Option Nat → Prop) (v9 : Option Nat) (G : hG) : Prop :=
  Q G v9
def wJ1_put_2_b187 (Q : hG → Option Nat → Prop) (v2 : Option Nat) (v4 : Nat) (v9 : Option Nat) (G : hG) : Prop :=
  hC G v4 = some (10, true) ∧ hlet (hsR G v4 1 v2) fun G2 => wJ1_put_2_b193 Q v9 G2
def wJ1_put_2_b216 (Q : hG → Option Nat → Prop) (s0 : Nat) (s1 : Option Nat) (s2 : Option Nat) (s3 : Nat) (s4 : Int32) (G : hG) : Prop :=
  hcl G s0 9 ∧ (wJ1_addEntry (fun G1 => Q G1 none) s0 s1 s2 (some s3) s4 G)
def wJ1_put_2_b196 (Q : hG → Option Nat → Prop) (r123 : Nat → Option Nat → Option Nat → Int32 → Nat → Option Nat → hG → Prop) (v0 : Nat) (v1 : Option Nat) (v2 : Option Nat) (v3 : Int32) (v4 : Option Nat) (v5 : Int32) (v6 : Nat) (v8 : Nat) (G : hG) : Prop :=
  (v4 = none → ((0 ≤ v5 → (wJ1_put_2_b216 Q v0 v1 v2 v6 (0 : Int32) G)) ∧ (¬ 0 ≤ v5 → (wJ1_put_2_b216 Q v0 v1 v2 v6 (1 : Int32) G)))) ∧ (∀ y1, v4 = some y1 → (r123 v0 v1 v2 v3 y1 (some v8) G))
def wJ1_put_2_b123 (Q : hG → Option Nat → Prop) (r123 : Nat → Option Nat → Option Nat → Int32 → Nat → Option Nat → hG → Prop) (v0 : Nat) (v1 : Option Nat) (v2 : Option Nat) (v3 : Int32) (v4 : Nat) (v8 : Option Nat) (G : hG) : Prop :=
  hcl G v4 10 ∧ hlet (hR G v4 0) fun y3 => ∃ a4, v8 = some a4 ∧ (hcl G a4 4 ∧ (wX5_compareTo (fun G5 z6 => (0 ≤ z6 → ((z6 ≤ 0 → (hcl G5 v4 10 ∧ hlet (hR G5 v4 1) fun y15 => (v3 = 0 → ((y15 = none → (wJ1_put_2_b187 Q v2 v4 none G5)) ∧ (∀ y18, y15 = some y18 → (wJ1_put_2_b193 Q (some y18) G5)))) ∧ (¬ v3 = 0 → (wJ1_put_2_b187 Q v2 v4 y15 G5)))) ∧ (¬ z6 ≤ 0 → (hcl G5 v4 10 ∧ hlet (hR G5 v4 3) fun y21 => wJ1_put_2_b196 Q r123 v0 v1 v2 v3 y21 z6 v4 a4 G5)))) ∧ (¬ 0 ≤ z6 → (hcl G5 v4 10 ∧ hlet (hR G5 v4 2) fun y24 => wJ1_put_2_b196 Q r123 v0 v1 v2 v3 y24 z6 v4 a4 G5))) a4 y3 G))
def wJ1_put_2_l123 (Q : hG → Option Nat → Prop) (n : Nat) : Nat → Option Nat → Option Nat → Int32 → Nat → Option Nat → hG → Prop := Nat.rec (motive := fun _ => Nat → Option Nat → Option Nat → Int32 → Nat → Option Nat → hG → Prop) (fun _ _ _ _ _ _ _ => False) (fun _ ih => wJ1_put_2_b123 Q ih) n
def wJ1_put_2 (Q : hG → Option Nat → Prop) (v0 : Nat) (v1 : Option Nat) (v2 : Option Nat) (v3 : Int32) (G : hG) : Prop :=
  hcl G v0 9 ∧ hlet (hR G v0 3) fun y2 => (y2 = none → (hcl G v0 9 ∧ (wJ1_addEntryToEmptyMap (fun G6 => Q G6 none) v0 v1 v2 G))) ∧ (∀ y4, y2 = some y4 → (hcl G v0 9 ∧ hlet (hR G v0 2) fun y12 => (y12 = none → (wJ11_requireNonNull (fun G16 z17 => (∀ y, v1 = some y → hcl G16 y 4) ∧ (∃ n, wJ1_put_2_l123 Q n v0 v1 v2 v3 y4 v1 G16)) v1 G)) ∧ (∀ y14, y12 = some y14 → (False))))
abbrev rmJ1_put_2 : Room := { frames := 5, cells := 1, slots := 6, locals := 109 }
def wJ1_put (Q : hG → Option Nat → Prop) (v0 : Nat) (v1 : Option Nat) (v2 : Option Nat) (G : hG) : Prop :=
  hcl G v0 9 ∧ (wJ1_put_2 (fun G1 z2 => Q G1 z2) v0 v1 v2 (1 : Int32) G)
abbrev rmJ1_put : Room := { frames := 6, cells := 1, slots := 6, locals := 138 }
def wJ20_intValue (Q : hG → Int32 → Prop) (v0 : Nat) (G : hG) : Prop :=
  hcl G v0 22 ∧ (Q G (hI G v0 0))
abbrev rmJ20_intValue : Room := { frames := 0, cells := 0, slots := 0, locals := 0 }
def wX2_addWord_b75 (Q : hG → Int32 → Prop) (X : Bool → hG → Prop) (s0 : Int32) (G : hG) : Prop :=
  Q G s0
def wX2_addWord_b42 (Q : hG → Int32 → Prop) (X : Bool → hG → Prop) (v0 : Nat) (v1 : Nat) (v2 : Int32) (s0 : Int32) (G : hG) : Prop :=
  wX1_requireState (fun G1 => hcl G1 v0 2 ∧ hlet (hR G1 v0 0) fun y6 => wJ20_valueOf (fun G7 z8 => ∃ a12, y6 = some a12 ∧ (hcl G7 a12 9 ∧ (wJ1_put (fun G13 z14 => (∀ y, z14 = some y → hcl G13 y 22) ∧ ((z14 = none → (wX2_addWord_b75 Q X (0 : Int32) G13)) ∧ (∀ y21, z14 = some y21 → (hcl G13 y21 22 ∧ (wJ20_intValue (fun G23 z24 => wX2_addWord_b75 Q X z24 G23) y21 G13))))) a12 (some v1) z8 G7))) v2 G1) X s0 (hK G 122) G
def wX2_addWord_b37 (Q : hG → Int32 → Prop) (X : Bool → hG → Prop) (v0 : Nat) (v1 : Nat) (v2 : Int32) (G : hG) : Prop :=
  wX2_addWord_b42 Q X v0 v1 v2 (1 : Int32) G
def wX2_addWord (Q : hG → Int32 → Prop) (X : Bool → hG → Prop) (v0 : Nat) (v1 : Nat) (v2 : Int32) (G : hG) : Prop :=
  wX1_inRange (fun G1 z2 => wX1_requireArgument (fun G6 => hcl G6 v0 2 ∧ hlet (hR G6 v0 0) fun y11 => ∃ a12, y11 = some a12 ∧ (hcl G6 a12 9 ∧ (wJ1_containsKey (fun G13 z14 => (z14 = 0 → (hcl G13 v0 2 ∧ hlet (hR G13 v0 0) fun y21 => ∃ a22, y21 = some a22 ∧ (hcl G13 a22 9 ∧ (wJ1_size (fun G23 z24 => ((20 : Int32) ≤ z24 → (wX2_addWord_b42 Q X v0 v1 v2 (0 : Int32) G23)) ∧ (¬ (20 : Int32) ≤ z24 → (wX2_addWord_b37 Q X v0 v1 v2 G23))) a22 G13)))) ∧ (¬ z14 = 0 → (wX2_addWord_b37 Q X v0 v1 v2 G13))) a12 (some v1) G6))) X z2 (hK G1 121) G1) ((v2).toInt64) (1 : Int64) (999 : Int64) G
abbrev rmX2_addWord : Room := { frames := 7, cells := 4, slots := 19, locals := 160 }
def wJ6_size (Q : hG → Int32 → Prop) (v0 : Nat) (G : hG) : Prop :=
  hcl G v0 18 ∧ (Q G (hI G v0 2))
abbrev rmJ6_size : Room := { frames := 0, cells := 0, slots := 0, locals := 0 }
def wJ29_checkIndex (Q : hG → Int32 → Prop) (v0 : Int32) (v1 : Int32) (v2 : Option Nat) (G : hG) : Prop :=
  (v0 < 0 → (False)) ∧ (¬ v0 < 0 → ((v0 < v1 → (Q G v0)) ∧ (¬ v0 < v1 → (False))))
abbrev rmJ29_checkIndex : Room := { frames := 0, cells := 0, slots := 0, locals := 0 }
def wJ11_checkIndex (Q : hG → Int32 → Prop) (v0 : Int32) (v1 : Int32) (G : hG) : Prop :=
  wJ29_checkIndex (fun G1 z2 => Q G1 z2) v0 v1 none G
abbrev rmJ11_checkIndex : Room := { frames := 1, cells := 0, slots := 0, locals := 22 }
def wJ6_fastRemove_b34 (Q : hG → Prop) (v0 : Nat) (v1 : Nat) (v3 : Int32) (G : hG) : Prop :=
  hC G v0 = some (18, true) ∧ hlet (hsI G v0 2 v3) fun G2 => hC G2 v1 = some (103, true) ∧ vp_in v3 (hN G2 v1) ∧ hTk G2 3 none ∧ hlet (hsR G2 v1 (Int32.toNatClampNeg v3) none) fun G8 => Q G8
def wJ6_fastRemove (Q : hG → Prop) (v0 : Nat) (v1 : Nat) (v2 : Int32) (G : hG) : Prop :=
  hcl G v0 18 ∧ (hC G v0 = some (18, true) ∧ hlet (hsI G v0 0 ((hI G v0 0) + (1 : Int32))) fun G3 => hcl G3 v0 18 ∧ ((((hI G3 v0 2) - (1 : Int32)) ≤ v2 → (wJ6_fastRemove_b34 Q v0 v1 ((hI G3 v0 2) - (1 : Int32)) G3)) ∧ (¬ ((hI G3 v0 2) - (1 : Int32)) ≤ v2 → (hC G3 v1 = some (103, true) ∧ hC G3 v1 = some (103, true) ∧ ¬ (v2 + (1 : Int32)) < 0 ∧ ¬ v2 < 0 ∧ ¬ (((hI G3 v0 2) - (1 : Int32)) - v2) < 0 ∧ (Int32.toNatClampNeg (v2 + (1 : Int32))) + (Int32.toNatClampNeg (((hI G3 v0 2) - (1 : Int32)) - v2)) ≤ hN G3 v1 ∧ (Int32.toNatClampNeg v2) + (Int32.toNatClampNeg (((hI G3 v0 2) - (1 : Int32)) - v2)) ≤ hN G3 v1 ∧ (∀ i : Nat, i < (Int32.toNatClampNeg (((hI G3 v0 2) - (1 : Int32)) - v2)) → ∀ y : Nat, hR G3 v1 ((Int32.toNatClampNeg (v2 + (1 : Int32))) + i) = some y → hOb G3 hNob y) ∧ hlet (hcpR G3 v1 (Int32.toNatClampNeg v2) (hR G3 v1) (Int32.toNatClampNeg (v2 + (1 : Int32))) (Int32.toNatClampNeg (((hI G3 v0 2) - (1 : Int32)) - v2))) fun G9 => wJ6_fastRemove_b34 Q v0 v1 ((hI G3 v0 2) - (1 : Int32)) G9))))
abbrev rmJ6_fastRemove : Room := { frames := 1, cells := 0, slots := 0, locals := 48 }
def wJ6_remove (Q : hG → Option Nat → Prop) (v0 : Nat) (v1 : Int32) (G : hG) : Prop :=
  hcl G v0 18 ∧ (wJ11_checkIndex (fun G2 z3 => hcl G2 v0 18 ∧ hlet (hR G2 v0 1) fun y8 => ∃ a10, y8 = some a10 ∧ (hcl G2 a10 103 ∧ vp_in v1 (hN G2 a10) ∧ hlet (hR G2 a10 (Int32.toNatClampNeg v1)) fun y13 => hcl G2 v0 18 ∧ (wJ6_fastRemove (fun G15 => Q G15 y13) v0 a10 v1 G2))) v1 (hI G v0 2) G)
abbrev rmJ6_remove : Room := { frames := 2, cells := 0, slots := 0, locals := 71 }
def wJ6_grow (Q : hG → Option Nat → Prop) (v0 : Nat) (G : hG) : Prop :=
  hcl G v0 18 ∧ (hcl G v0 18 ∧ (wJ6_grow_2 (fun G2 z3 => Q G2 z3) v0 ((hI G v0 2) + (1 : Int32)) G))
abbrev rmJ6_grow : Room := { frames := 4, cells := 1, slots := 64, locals := 115 }
def wJ6_add_2_b11 (Q : hG → Prop) (v0 : Nat) (v1 : Option Nat) (v2 : Option Nat) (v3 : Int32) (G : hG) : Prop :=
  ∃ a1, v2 = some a1 ∧ (hC G a1 = some (103, true) ∧ vp_in v3 (hN G a1) ∧ hTk G 3 v1 ∧ hlet (hsR G a1 (Int32.toNatClampNeg v3) v1) fun G5 => hC G5 v0 = some (18, true) ∧ hlet (hsI G5 v0 2 (v3 + (1 : Int32))) fun G9 => Q G9)
def wJ6_add_2 (Q : hG → Prop) (v0 : Nat) (v1 : Option Nat) (v2 : Nat) (v3 : Int32) (G : hG) : Prop :=
  hcl G v2 103 ∧ ((v3 = (nI (hN G v2)) → (hcl G v0 18 ∧ (wJ6_grow (fun G3 z4 => wJ6_add_2_b11 Q v0 v1 z4 v3 G3) v0 G))) ∧ (¬ v3 = (nI (hN G v2)) → (wJ6_add_2_b11 Q v0 v1 (some v2) v3 G)))
abbrev rmJ6_add_2 : Room := { frames := 5, cells := 1, slots := 64, locals := 135 }
def wJ6_add (Q : hG → Int32 → Prop) (v0 : Nat) (v1 : Option Nat) (G : hG) : Prop :=
  hcl G v0 18 ∧ (hC G v0 = some (18, true) ∧ hlet (hsI G v0 0 ((hI G v0 0) + (1 : Int32))) fun G3 => hcl G3 v0 18 ∧ hlet (hR G3 v0 1) fun y7 => hcl G3 v0 18 ∧ (∃ a9, y7 = some a9 ∧ (hcl G3 v0 18 ∧ (wJ6_add_2 (fun G10 => Q G10 (1 : Int32)) v0 v1 a9 (hI G3 v0 2) G3))))
abbrev rmJ6_add : Room := { frames := 6, cells := 1, slots := 64, locals := 158 }
def wX1_become_b23 (Q : hG → Int32 → Prop) (v0 : Nat) (v1 : Nat) (v2 : Int32) (G : hG) : Prop :=
  hcl G v0 1 ∧ hlet (hR G v0 1) fun y2 => hcl G v0 1 ∧ hlet (hR G v0 0) fun y4 => ∃ a5, y2 = some a5 ∧ (hcl G a5 18 ∧ (wJ6_add (fun G6 z7 => hC G6 v0 = some (1, true) ∧ hlet (hsR G6 v0 0 (some v1)) fun G14 => Q G14 v2) a5 y4 G))
def wX1_become (Q : hG → Int32 → Prop) (v0 : Nat) (v1 : Nat) (v2 : Int32) (G : hG) : Prop :=
  hcl G v0 1 ∧ hlet (hR G v0 1) fun y2 => ∃ a3, y2 = some a3 ∧ (hcl G a3 18 ∧ (wJ6_size (fun G4 z5 => (z5 = (4 : Int32) → (hcl G4 v0 1 ∧ hlet (hR G4 v0 1) fun y12 => ∃ a13, y12 = some a13 ∧ (hcl G4 a13 18 ∧ (wJ6_remove (fun G14 z15 => (∀ y, z15 = some y → hcl G14 y 2) ∧ (wX1_become_b23 Q v0 v1 v2 G14)) a13 (0 : Int32) G4)))) ∧ (¬ z5 = (4 : Int32) → (wX1_become_b23 Q v0 v1 v2 G4))) a3 G))
abbrev rmX1_become : Room := { frames := 7, cells := 1, slots := 64, locals := 179 }
def wX1_addWord (Q : hG → Int32 → Prop) (X : Bool → hG → Prop) (v0 : Nat) (v1 : Int64) (v3 : Int32) (G : hG) : Prop :=
  ∀ q1, hfr G q1 → hlet (hnw G q1 4 0) fun G2 => wX5_init (fun G6 => hcl G6 v0 1 ∧ hlet (hR G6 v0 0) fun y12 => ∃ a13, y12 = some a13 ∧ (hcl G6 a13 2 ∧ (wX2_copy (fun G14 z15 => ∃ a21, z15 = some a21 ∧ (hcl G14 a21 2 ∧ (wX2_addWord (fun G22 z23 => hcl G22 v0 1 ∧ (wX1_become (fun G28 z29 => Q G28 z29) v0 a21 z23 G22)) X a21 q1 v3 G14))) a13 G6))) X q1 v1 G2
abbrev rmX1_addWord : Room := { frames := 14, cells := 159, slots := 1480, locals := 373 }
def wX0_addWord (Q : hG → Int32 → Prop) (v0 : Nat) (v1 : Int64) (v3 : Int32) (v4 : Nat) (G : hG) : Prop :=
  hcl G v0 1 ∧ (wX1_addWord (fun G1 z2 => hC G1 v4 = some (101, true) ∧ vp_in (0 : Int32) (hN G1 v4) ∧ hlet (hsJ G1 v4 (Int32.toNatClampNeg (0 : Int32)) ((z2).toInt64)) fun G13 => Q G13 (0 : Int32)) (fun k G5 => hXc k (∀ q4 : Nat, Q G5 (1 : Int32)) (∀ q4 : Nat, Q G5 (2 : Int32))) v0 v1 v3 G)
abbrev rmX0_addWord : Room := { frames := 15, cells := 159, slots := 1480, locals := 398 }
def wJ1_fixAfterDeletion_b183 (Q : hG → Prop) (r0 : Nat → Option Nat → hG → Prop) (v0 : Nat) (v1 : Option Nat) (G : hG) : Prop :=
  r0 v0 v1 G
def wJ1_fixAfterDeletion_b143 (Q : hG → Prop) (r0 : Nat → Option Nat → hG → Prop) (v0 : Nat) (v1 : Option Nat) (v2 : Option Nat) (G : hG) : Prop :=
  wJ1_parentOf (fun G1 z2 => wJ1_colorOf (fun G6 z7 => wJ1_setColor (fun G11 => wJ1_parentOf (fun G15 z16 => wJ1_setColor (fun G20 => wJ1_rightOf (fun G24 z25 => wJ1_setColor (fun G29 => wJ1_parentOf (fun G33 z34 => hcl G33 v0 9 ∧ (wJ1_rotateLeft (fun G38 => hcl G38 v0 9 ∧ hlet (hR G38 v0 3) fun y44 => wJ1_fixAfterDeletion_b183 Q r0 v0 y44 G38) v0 z34 G33)) v1 G29) z25 (1 : Int32) G24) v2 G20) z16 (1 : Int32) G15) v1 G11) v2 z7 G6) z2 G1) v1 G
def wJ1_fixAfterDeletion_b106 (Q : hG → Prop) (r0 : Nat → Option Nat → hG → Prop) (v0 : Nat) (v1 : Option Nat) (v2 : Option Nat) (G : hG) : Prop :=
  wJ1_rightOf (fun G1 z2 => wJ1_colorOf (fun G6 z7 => (z7 = (1 : Int32) → (wJ1_leftOf (fun G12 z13 => wJ1_setColor (fun G17 => wJ1_setColor (fun G21 => hcl G21 v0 9 ∧ (wJ1_rotateRight (fun G25 => wJ1_parentOf (fun G30 z31 => wJ1_rightOf (fun G35 z36 => wJ1_fixAfterDeletion_b143 Q r0 v0 v1 z36 G35) z31 G30) v1 G25) v0 v2 G21)) v2 (0 : Int32) G17) z13 (1 : Int32) G12) v2 G6)) ∧ (¬ z7 = (1 : Int32) → (wJ1_fixAfterDeletion_b143 Q r0 v0 v1 v2 G6))) z2 G1) v2 G
def wJ1_fixAfterDeletion_b71 (Q : hG → Prop) (r0 : Nat → Option Nat → hG → Prop) (v0 : Nat) (v1 : Option Nat) (v2 : Option Nat) (G : hG) : Prop :=
  wJ1_leftOf (fun G1 z2 => wJ1_colorOf (fun G6 z7 => (z7 = (1 : Int32) → (wJ1_rightOf (fun G12 z13 => wJ1_colorOf (fun G17 z18 => (z18 = (1 : Int32) → (wJ1_setColor (fun G23 => wJ1_parentOf (fun G27 z28 => wJ1_fixAfterDeletion_b183 Q r0 v0 z28 G27) v1 G23) v2 (0 : Int32) G17)) ∧ (¬ z18 = (1 : Int32) → (wJ1_fixAfterDeletion_b106 Q r0 v0 v1 v2 G17))) z13 G12) v2 G6)) ∧ (¬ z7 = (1 : Int32) → (wJ1_fixAfterDeletion_b106 Q r0 v0 v1 v2 G6))) z2 G1) v2 G
def wJ1_fixAfterDeletion_b342 (Q : hG → Prop) (r0 : Nat → Option Nat → hG → Prop) (v0 : Nat) (v1 : Option Nat) (G : hG) : Prop :=
  r0 v0 v1 G
def wJ1_fixAfterDeletion_b302 (Q : hG → Prop) (r0 : Nat → Option Nat → hG → Prop) (v0 : Nat) (v1 : Option Nat) (v2 : Option Nat) (G : hG) : Prop :=
  wJ1_parentOf (fun G1 z2 => wJ1_colorOf (fun G6 z7 => wJ1_setColor (fun G11 => wJ1_parentOf (fun G15 z16 => wJ1_setColor (fun G20 => wJ1_leftOf (fun G24 z25 => wJ1_setColor (fun G29 => wJ1_parentOf (fun G33 z34 => hcl G33 v0 9 ∧ (wJ1_rotateRight (fun G38 => hcl G38 v0 9 ∧ hlet (hR G38 v0 3) fun y44 => wJ1_fixAfterDeletion_b342 Q r0 v0 y44 G38) v0 z34 G33)) v1 G29) z25 (1 : Int32) G24) v2 G20) z16 (1 : Int32) G15) v1 G11) v2 z7 G6) z2 G1) v1 G
def wJ1_fixAfterDeletion_b265 (Q : hG → Prop) (r0 : Nat → Option Nat → hG → Prop) (v0 : Nat) (v1 : Option Nat) (v2 : Option Nat) (G : hG) : Prop :=
  wJ1_leftOf (fun G1 z2 => wJ1_colorOf (fun G6 z7 => (z7 = (1 : Int32) → (wJ1_rightOf (fun G12 z13 => wJ1_setColor (fun G17 => wJ1_setColor (fun G21 => hcl G21 v0 9 ∧ (wJ1_rotateLeft (fun G25 => wJ1_parentOf (fun G30 z31 => wJ1_leftOf (fun G35 z36 => wJ1_fixAfterDeletion_b302 Q r0 v0 v1 z36 G35) z31 G30) v1 G25) v0 v2 G21)) v2 (0 : Int32) G17) z13 (1 : Int32) G12) v2 G6)) ∧ (¬ z7 = (1 : Int32) → (wJ1_fixAfterDeletion_b302 Q r0 v0 v1 v2 G6))) z2 G1) v2 G
def wJ1_fixAfterDeletion_b230 (Q : hG → Prop) (r0 : Nat → Option Nat → hG → Prop) (v0 : Nat) (v1 : Option Nat) (v2 : Option Nat) (G : hG) : Prop :=
  wJ1_rightOf (fun G1 z2 => wJ1_colorOf (fun G6 z7 => (z7 = (1 : Int32) → (wJ1_leftOf (fun G12 z13 => wJ1_colorOf (fun G17 z18 => (z18 = (1 : Int32) → (wJ1_setColor (fun G23 => wJ1_parentOf (fun G27 z28 => wJ1_fixAfterDeletion_b342 Q r0 v0 z28 G27) v1 G23) v2 (0 : Int32) G17)) ∧ (¬ z18 = (1 : Int32) → (wJ1_fixAfterDeletion_b265 Q r0 v0 v1 v2 G17))) z13 G12) v2 G6)) ∧ (¬ z7 = (1 : Int32) → (wJ1_fixAfterDeletion_b265 Q r0 v0 v1 v2 G6))) z2 G1) v2 G
def wJ1_fixAfterDeletion_b345 (Q : hG → Prop) (v1 : Option Nat) (G : hG) : Prop :=
  wJ1_setColor (fun G1 => Q G1) v1 (1 : Int32) G
def wJ1_fixAfterDeletion_b0 (Q : hG → Prop) (r0 : Nat → Option Nat → hG → Prop) (v0 : Nat) (v1 : Option Nat) (G : hG) : Prop :=
  hcl G v0 9 ∧ hlet (hR G v0 3) fun y2 => (v1 = y2 → (wJ1_fixAfterDeletion_b345 Q v1 G)) ∧ (¬ v1 = y2 → (wJ1_colorOf (fun G4 z5 => (z5 = (1 : Int32) → (wJ1_parentOf (fun G10 z11 => wJ1_leftOf (fun G15 z16 => (v1 = z16 → (wJ1_parentOf (fun G72 z73 => wJ1_rightOf (fun G77 z78 => wJ1_colorOf (fun G83 z84 => (z84 = 0 → (wJ1_setColor (fun G89 => wJ1_parentOf (fun G93 z94 => wJ1_setColor (fun G98 => wJ1_parentOf (fun G102 z103 => hcl G102 v0 9 ∧ (wJ1_rotateLeft (fun G107 => wJ1_parentOf (fun G112 z113 => wJ1_rightOf (fun G117 z118 => wJ1_fixAfterDeletion_b71 Q r0 v0 v1 z118 G117) z113 G112) v1 G107) v0 z103 G102)) v1 G98) z94 (0 : Int32) G93) v1 G89) z78 (1 : Int32) G83)) ∧ (¬ z84 = 0 → (wJ1_fixAfterDeletion_b71 Q r0 v0 v1 z78 G83))) z78 G77) z73 G72) v1 G15)) ∧ (¬ v1 = z16 → (wJ1_parentOf (fun G21 z22 => wJ1_leftOf (fun G26 z27 => wJ1_colorOf (fun G32 z33 => (z33 = 0 → (wJ1_setColor (fun G38 => wJ1_parentOf (fun G42 z43 => wJ1_setColor (fun G47 => wJ1_parentOf (fun G51 z52 => hcl G51 v0 9 ∧ (wJ1_rotateRight (fun G56 => wJ1_parentOf (fun G61 z62 => wJ1_leftOf (fun G66 z67 => wJ1_fixAfterDeletion_b230 Q r0 v0 v1 z67 G66) z62 G61) v1 G56) v0 z52 G51)) v1 G47) z43 (0 : Int32) G42) v1 G38) z27 (1 : Int32) G32)) ∧ (¬ z33 = 0 → (wJ1_fixAfterDeletion_b230 Q r0 v0 v1 z27 G32))) z27 G26) z22 G21) v1 G15))) z11 G10) v1 G4)) ∧ (¬ z5 = (1 : Int32) → (wJ1_fixAfterDeletion_b345 Q v1 G4))) v1 G))
def wJ1_fixAfterDeletion_l0 (Q : hG → Prop) (n : Nat) : Nat → Option Nat → hG → Prop := Nat.rec (motive := fun _ => Nat → Option Nat → hG → Prop) (fun _ _ _ => False) (fun _ ih => wJ1_fixAfterDeletion_b0 Q ih) n
def wJ1_fixAfterDeletion (Q : hG → Prop) (v0 : Nat) (v1 : Option Nat) (G : hG) : Prop :=
  ∃ n, wJ1_fixAfterDeletion_l0 Q n v0 v1 G
abbrev rmJ1_fixAfterDeletion : Room := { frames := 1, cells := 0, slots := 0, locals := 22 }
def wJ1_deleteEntry_b245 (Q : hG → Prop)  (G : hG) : Prop :=
  Q G
def wJ1_deleteEntry_b133 (Q : hG → Prop) (v0 : Nat) (v1 : Nat) (v2 : Nat) (G : hG) : Prop :=
  hC G v1 = some (10, true) ∧ hlet (hsR G v1 4 none) fun G2 => hC G2 v1 = some (10, true) ∧ hlet (hsR G2 v1 3 none) fun G6 => hC G6 v1 = some (10, true) ∧ hlet (hsR G6 v1 2 none) fun G10 => hcl G10 v1 10 ∧ (((hI G10 v1 5) = (1 : Int32) → (hcl G10 v0 9 ∧ (wJ1_fixAfterDeletion (fun G15 => wJ1_deleteEntry_b245 Q G15) v0 (some v2) G10))) ∧ (¬ (hI G10 v1 5) = (1 : Int32) → (wJ1_deleteEntry_b245 Q G10)))
def wJ1_deleteEntry_b240 (Q : hG → Prop) (v1 : Nat) (G : hG) : Prop :=
  hC G v1 = some (10, true) ∧ hlet (hsR G v1 4 none) fun G2 => wJ1_deleteEntry_b245 Q G2
def wJ1_deleteEntry_b192 (Q : hG → Prop) (v1 : Nat) (G : hG) : Prop :=
  hcl G v1 10 ∧ hlet (hR G v1 4) fun y2 => (y2 = none → (wJ1_deleteEntry_b245 Q G)) ∧ (∀ y3, y2 = some y3 → (hcl G v1 10 ∧ hlet (hR G v1 4) fun y6 => ∃ a7, y6 = some a7 ∧ (hcl G a7 10 ∧ hlet (hR G a7 2) fun y9 => ((some v1) = y9 → (hcl G v1 10 ∧ hlet (hR G v1 4) fun y25 => ∃ a26, y25 = some a26 ∧ (hC G a26 = some (10, true) ∧ hlet (hsR G a26 2 none) fun G28 => wJ1_deleteEntry_b240 Q v1 G28))) ∧ (¬ (some v1) = y9 → (hcl G v1 10 ∧ hlet (hR G v1 4) fun y12 => ∃ a13, y12 = some a13 ∧ (hcl G a13 10 ∧ hlet (hR G a13 3) fun y15 => ((some v1) = y15 → (hcl G v1 10 ∧ hlet (hR G v1 4) fun y18 => ∃ a19, y18 = some a19 ∧ (hC G a19 = some (10, true) ∧ hlet (hsR G a19 3 none) fun G21 => wJ1_deleteEntry_b240 Q v1 G21))) ∧ (¬ (some v1) = y15 → (wJ1_deleteEntry_b240 Q v1 G))))))))
def wJ1_deleteEntry_b75 (Q : hG → Prop) (v0 : Nat) (v1 : Nat) (s0 : Option Nat) (G : hG) : Prop :=
  (s0 = none → (hcl G v1 10 ∧ hlet (hR G v1 4) fun y5 => (y5 = none → (hC G v0 = some (9, true) ∧ hlet (hsR G v0 3 none) fun G9 => wJ1_deleteEntry_b245 Q G9)) ∧ (∀ y6, y5 = some y6 → (hcl G v1 10 ∧ (((hI G v1 5) = (1 : Int32) → (hcl G v0 9 ∧ (wJ1_fixAfterDeletion (fun G14 => wJ1_deleteEntry_b192 Q v1 G14) v0 (some v1) G))) ∧ (¬ (hI G v1 5) = (1 : Int32) → (wJ1_deleteEntry_b192 Q v1 G))))))) ∧ (∀ y2, s0 = some y2 → (hcl G v1 10 ∧ hlet (hR G v1 4) fun y20 => hC G y2 = some (10, true) ∧ hlet (hsR G y2 4 y20) fun G22 => hcl G22 v1 10 ∧ hlet (hR G22 v1 4) fun y26 => (y26 = none → (hC G22 v0 = some (9, true) ∧ hlet (hsR G22 v0 3 (some y2)) fun G30 => wJ1_deleteEntry_b133 Q v0 v1 y2 G30)) ∧ (∀ y27, y26 = some y27 → (hcl G22 v1 10 ∧ hlet (hR G22 v1 4) fun y34 => ∃ a35, y34 = some a35 ∧ (hcl G22 a35 10 ∧ hlet (hR G22 a35 2) fun y37 => ((some v1) = y37 → (hcl G22 v1 10 ∧ hlet (hR G22 v1 4) fun y47 => ∃ a48, y47 = some a48 ∧ (hC G22 a48 = some (10, true) ∧ hlet (hsR G22 a48 2 (some y2)) fun G50 => wJ1_deleteEntry_b133 Q v0 v1 y2 G50))) ∧ (¬ (some v1) = y37 → (hcl G22 v1 10 ∧ hlet (hR G22 v1 4) fun y40 => ∃ a41, y40 = some a41 ∧ (hC G22 a41 = some (10, true) ∧ hlet (hsR G22 a41 3 (some y2)) fun G43 => wJ1_deleteEntry_b133 Q v0 v1 y2 G43))))))))
def wJ1_deleteEntry_b57 (Q : hG → Prop) (v0 : Nat) (v1 : Nat) (G : hG) : Prop :=
  hcl G v1 10 ∧ hlet (hR G v1 2) fun y2 => (y2 = none → (hcl G v1 10 ∧ hlet (hR G v1 3) fun y6 => wJ1_deleteEntry_b75 Q v0 v1 y6 G)) ∧ (∀ y3, y2 = some y3 → (hcl G v1 10 ∧ hlet (hR G v1 2) fun y8 => wJ1_deleteEntry_b75 Q v0 v1 y8 G))
def wJ1_deleteEntry (Q : hG → Prop) (v0 : Nat) (v1 : Option Nat) (G : hG) : Prop :=
  hcl G v0 9 ∧ (hC G v0 = some (9, true) ∧ hlet (hsI G v0 5 ((hI G v0 5) + (1 : Int32))) fun G3 => hcl G3 v0 9 ∧ (hC G3 v0 = some (9, true) ∧ hlet (hsI G3 v0 4 ((hI G3 v0 4) - (1 : Int32))) fun G8 => ∃ a11, v1 = some a11 ∧ (hcl G8 a11 10 ∧ hlet (hR G8 a11 2) fun y13 => (y13 = none → (wJ1_deleteEntry_b57 Q v0 a11 G8)) ∧ (∀ y14, y13 = some y14 → (hcl G8 a11 10 ∧ hlet (hR G8 a11 3) fun y17 => (y17 = none → (wJ1_deleteEntry_b57 Q v0 a11 G8)) ∧ (∀ y18, y17 = some y18 → (wJ1_successor (fun G20 z21 => ∃ a26, z21 = some a26 ∧ (hcl G20 a26 10 ∧ hlet (hR G20 a26 0) fun y28 => hC G20 a11 = some (10, true) ∧ hlet (hsR G20 a11 0 y28) fun G30 => hcl G30 a26 10 ∧ hlet (hR G30 a26 1) fun y34 => hC G30 a11 = some (10, true) ∧ hlet (hsR G30 a11 1 y34) fun G36 => wJ1_deleteEntry_b57 Q v0 a26 G36)) (some a11) G8)))))))
abbrev rmJ1_deleteEntry : Room := { frames := 2, cells := 0, slots := 0, locals := 44 }
def wJ1_remove (Q : hG → Option Nat → Prop) (v0 : Nat) (v1 : Option Nat) (G : hG) : Prop :=
  hcl G v0 9 ∧ (wJ1_getEntry (fun G1 z2 => (z2 = none → (Q G1 none)) ∧ (∀ y8, z2 = some y8 → (hcl G1 y8 10 ∧ hlet (hR G1 y8 1) fun y11 => hcl G1 v0 9 ∧ (wJ1_deleteEntry (fun G13 => Q G13 y11) v0 (some y8) G1)))) v0 v1 G)
abbrev rmJ1_remove : Room := { frames := 4, cells := 0, slots := 0, locals := 89 }
def wX2_dropWord_b24 (Q : hG → Int32 → Prop) (s0 : Int32) (G : hG) : Prop :=
  Q G s0
def wX2_dropWord (Q : hG → Int32 → Prop) (v0 : Nat) (v1 : Nat) (G : hG) : Prop :=
  hcl G v0 2 ∧ hlet (hR G v0 0) fun y2 => ∃ a3, y2 = some a3 ∧ (hcl G a3 9 ∧ (wJ1_remove (fun G4 z5 => (∀ y, z5 = some y → hcl G4 y 22) ∧ ((z5 = none → (wX2_dropWord_b24 Q (0 : Int32) G4)) ∧ (∀ y12, z5 = some y12 → (hcl G4 y12 22 ∧ (wJ20_intValue (fun G14 z15 => wX2_dropWord_b24 Q z15 G14) y12 G4))))) a3 (some v1) G))
abbrev rmX2_dropWord : Room := { frames := 5, cells := 0, slots := 0, locals := 112 }
def wX1_dropWord (Q : hG → Int32 → Prop) (X : Bool → hG → Prop) (v0 : Nat) (v1 : Int64) (G : hG) : Prop :=
  ∀ q1, hfr G q1 → hlet (hnw G q1 4 0) fun G2 => wX5_init (fun G6 => hcl G6 v0 1 ∧ hlet (hR G6 v0 0) fun y12 => ∃ a13, y12 = some a13 ∧ (hcl G6 a13 2 ∧ (wX2_copy (fun G14 z15 => ∃ a21, z15 = some a21 ∧ (hcl G14 a21 2 ∧ (wX2_dropWord (fun G22 z23 => hcl G22 v0 1 ∧ (wX1_become (fun G28 z29 => Q G28 z29) v0 a21 z23 G22)) a21 q1 G14))) a13 G6))) X q1 v1 G2
abbrev rmX1_dropWord : Room := { frames := 14, cells := 155, slots := 1461, locals := 373 }
def wX0_dropWord (Q : hG → Int32 → Prop) (v0 : Nat) (v1 : Int64) (v3 : Nat) (G : hG) : Prop :=
  hcl G v0 1 ∧ (wX1_dropWord (fun G1 z2 => hC G1 v3 = some (101, true) ∧ vp_in (0 : Int32) (hN G1 v3) ∧ hlet (hsJ G1 v3 (Int32.toNatClampNeg (0 : Int32)) ((z2).toInt64)) fun G12 => Q G12 (0 : Int32)) (fun k G5 => hXc k (∀ q4 : Nat, Q G5 (1 : Int32)) False) v0 v1 G)
abbrev rmX0_dropWord : Room := { frames := 15, cells := 155, slots := 1461, locals := 397 }
def wJ4_contains (Q : hG → Int32 → Prop) (v0 : Nat) (v1 : Option Nat) (G : hG) : Prop :=
  hcl G v0 17 ∧ hlet (hR G v0 0) fun y2 => ∃ a3, y2 = some a3 ∧ (hcl G a3 9 ∧ (wJ1_containsKey (fun G4 z5 => hFt .boolean z5 ∧ Q G4 z5) a3 v1 G))
abbrev rmJ4_contains : Room := { frames := 5, cells := 0, slots := 0, locals := 110 }
def wJ4_add_b21 (Q : hG → Int32 → Prop) (s0 : Int32) (G : hG) : Prop :=
  hFt .boolean s0 ∧ Q G s0
def wJ4_add (Q : hG → Int32 → Prop) (v0 : Nat) (v1 : Option Nat) (G : hG) : Prop :=
  hcl G v0 17 ∧ hlet (hR G v0 0) fun y2 => ∃ a3, y2 = some a3 ∧ (hcl G a3 9 ∧ (wJ1_put (fun G4 z5 => (z5 = none → (wJ4_add_b21 Q (1 : Int32) G4)) ∧ (∀ y10, z5 = some y10 → (wJ4_add_b21 Q (0 : Int32) G4))) a3 v1 (some (hK G 0)) G))
abbrev rmJ4_add : Room := { frames := 7, cells := 1, slots := 6, locals := 160 }
def wX2_addName_b49 (Q : hG → Int32 → Prop) (X : Bool → hG → Prop) (s0 : Int32) (G : hG) : Prop :=
  Q G s0
def wX2_addName_b28 (Q : hG → Int32 → Prop) (X : Bool → hG → Prop) (v0 : Nat) (v1 : Nat) (s0 : Int32) (G : hG) : Prop :=
  wX1_requireState (fun G1 => hcl G1 v0 2 ∧ hlet (hR G1 v0 1) fun y6 => ∃ a7, y6 = some a7 ∧ (hcl G1 a7 17 ∧ (wJ4_add (fun G8 z9 => (z9 = 0 → (wX2_addName_b49 Q X (0 : Int32) G8)) ∧ (¬ z9 = 0 → (wX2_addName_b49 Q X (1 : Int32) G8))) a7 (some v1) G1))) X s0 (hK G 123) G
def wX2_addName_b23 (Q : hG → Int32 → Prop) (X : Bool → hG → Prop) (v0 : Nat) (v1 : Nat) (G : hG) : Prop :=
  wX2_addName_b28 Q X v0 v1 (1 : Int32) G
def wX2_addName (Q : hG → Int32 → Prop) (X : Bool → hG → Prop) (v0 : Nat) (v1 : Nat) (G : hG) : Prop :=
  hcl G v0 2 ∧ hlet (hR G v0 1) fun y2 => ∃ a3, y2 = some a3 ∧ (hcl G a3 17 ∧ (wJ4_contains (fun G4 z5 => (z5 = 0 → (hcl G4 v0 2 ∧ hlet (hR G4 v0 1) fun y12 => ∃ a13, y12 = some a13 ∧ (hcl G4 a13 17 ∧ (wJ4_size (fun G14 z15 => ((10 : Int32) ≤ z15 → (wX2_addName_b28 Q X v0 v1 (0 : Int32) G14)) ∧ (¬ (10 : Int32) ≤ z15 → (wX2_addName_b23 Q X v0 v1 G14))) a13 G4)))) ∧ (¬ z5 = 0 → (wX2_addName_b23 Q X v0 v1 G4))) a3 (some v1) G))
abbrev rmX2_addName : Room := { frames := 8, cells := 2, slots := 12, locals := 181 }
def wX1_addName (Q : hG → Int32 → Prop) (X : Bool → hG → Prop) (v0 : Nat) (v1 : Int64) (G : hG) : Prop :=
  ∀ q1, hfr G q1 → hlet (hnw G q1 4 0) fun G2 => wX5_init (fun G6 => hcl G6 v0 1 ∧ hlet (hR G6 v0 0) fun y12 => ∃ a13, y12 = some a13 ∧ (hcl G6 a13 2 ∧ (wX2_copy (fun G14 z15 => ∃ a21, z15 = some a21 ∧ (hcl G14 a21 2 ∧ (wX2_addName (fun G22 z23 => hcl G22 v0 1 ∧ (wX1_become (fun G28 z29 => Q G28 z29) v0 a21 z23 G22)) X a21 q1 G14))) a13 G6))) X q1 v1 G2
abbrev rmX1_addName : Room := { frames := 14, cells := 157, slots := 1473, locals := 373 }
def wX0_addName (Q : hG → Int32 → Prop) (v0 : Nat) (v1 : Int64) (v3 : Nat) (G : hG) : Prop :=
  hcl G v0 1 ∧ (wX1_addName (fun G1 z2 => hC G1 v3 = some (101, true) ∧ vp_in (0 : Int32) (hN G1 v3) ∧ hlet (hsJ G1 v3 (Int32.toNatClampNeg (0 : Int32)) ((z2).toInt64)) fun G13 => Q G13 (0 : Int32)) (fun k G5 => hXc k (∀ q4 : Nat, Q G5 (1 : Int32)) (∀ q4 : Nat, Q G5 (2 : Int32))) v0 v1 G)
abbrev rmX0_addName : Room := { frames := 15, cells := 157, slots := 1473, locals := 397 }
def wJ4_remove_b21 (Q : hG → Int32 → Prop) (s0 : Int32) (G : hG) : Prop :=
  hFt .boolean s0 ∧ Q G s0
def wJ4_remove (Q : hG → Int32 → Prop) (v0 : Nat) (v1 : Option Nat) (G : hG) : Prop :=
  hcl G v0 17 ∧ hlet (hR G v0 0) fun y2 => ∃ a3, y2 = some a3 ∧ (hcl G a3 9 ∧ (wJ1_remove (fun G4 z5 => (z5 = (some (hK G4 0)) → (wJ4_remove_b21 Q (1 : Int32) G4)) ∧ (¬ z5 = (some (hK G4 0)) → (wJ4_remove_b21 Q (0 : Int32) G4))) a3 v1 G))
abbrev rmJ4_remove : Room := { frames := 5, cells := 0, slots := 0, locals := 112 }
def wX2_dropName_b16 (Q : hG → Int32 → Prop) (s0 : Int32) (G : hG) : Prop :=
  Q G s0
def wX2_dropName (Q : hG → Int32 → Prop) (v0 : Nat) (v1 : Nat) (G : hG) : Prop :=
  hcl G v0 2 ∧ hlet (hR G v0 1) fun y2 => ∃ a3, y2 = some a3 ∧ (hcl G a3 17 ∧ (wJ4_remove (fun G4 z5 => (z5 = 0 → (wX2_dropName_b16 Q (0 : Int32) G4)) ∧ (¬ z5 = 0 → (wX2_dropName_b16 Q (1 : Int32) G4))) a3 (some v1) G))
abbrev rmX2_dropName : Room := { frames := 6, cells := 0, slots := 0, locals := 133 }
def wX1_dropName (Q : hG → Int32 → Prop) (X : Bool → hG → Prop) (v0 : Nat) (v1 : Int64) (G : hG) : Prop :=
  ∀ q1, hfr G q1 → hlet (hnw G q1 4 0) fun G2 => wX5_init (fun G6 => hcl G6 v0 1 ∧ hlet (hR G6 v0 0) fun y12 => ∃ a13, y12 = some a13 ∧ (hcl G6 a13 2 ∧ (wX2_copy (fun G14 z15 => ∃ a21, z15 = some a21 ∧ (hcl G14 a21 2 ∧ (wX2_dropName (fun G22 z23 => hcl G22 v0 1 ∧ (wX1_become (fun G28 z29 => Q G28 z29) v0 a21 z23 G22)) a21 q1 G14))) a13 G6))) X q1 v1 G2
abbrev rmX1_dropName : Room := { frames := 14, cells := 155, slots := 1461, locals := 373 }
def wX0_dropName (Q : hG → Int32 → Prop) (v0 : Nat) (v1 : Int64) (v3 : Nat) (G : hG) : Prop :=
  hcl G v0 1 ∧ (wX1_dropName (fun G1 z2 => hC G1 v3 = some (101, true) ∧ vp_in (0 : Int32) (hN G1 v3) ∧ hlet (hsJ G1 v3 (Int32.toNatClampNeg (0 : Int32)) ((z2).toInt64)) fun G12 => Q G12 (0 : Int32)) (fun k G5 => hXc k (∀ q4 : Nat, Q G5 (1 : Int32)) False) v0 v1 G)
abbrev rmX0_dropName : Room := { frames := 15, cells := 155, slots := 1461, locals := 397 }
def wX2_setStick_b29 (Q : hG → Int32 → Prop) (X : Bool → hG → Prop) (v0 : Nat) (v1 : Int32) (v2 : Int32) (s0 : Int32) (G : hG) : Prop :=
  wX1_requireArgument (fun G1 => hcl G1 v0 2 ∧ hlet (hR G1 v0 6) fun y6 => ∃ a7, y6 = some a7 ∧ (hcl G1 a7 100 ∧ vp_in v1 (hN G1 a7) ∧ (hcl G1 v0 2 ∧ hlet (hR G1 v0 6) fun y12 => ∃ a13, y12 = some a13 ∧ (hC G1 a13 = some (100, true) ∧ vp_in v1 (hN G1 a13) ∧ hlet (hsI G1 a13 (Int32.toNatClampNeg v1) v2) fun G16 => Q G16 (hI G1 a7 (Int32.toNatClampNeg v1)))))) X s0 (hK G 124) G
def wX2_setStick_b28 (Q : hG → Int32 → Prop) (X : Bool → hG → Prop) (v0 : Nat) (v1 : Int32) (v2 : Int32) (G : hG) : Prop :=
  wX2_setStick_b29 Q X v0 v1 v2 (0 : Int32) G
def wX2_setStick (Q : hG → Int32 → Prop) (X : Bool → hG → Prop) (v0 : Nat) (v1 : Int32) (v2 : Int32) (G : hG) : Prop :=
  wX1_inRange (fun G1 z2 => (z2 = 0 → (wX2_setStick_b28 Q X v0 v1 v2 G1)) ∧ (¬ z2 = 0 → (wX1_inRange (fun G7 z8 => (z8 = 0 → (wX2_setStick_b28 Q X v0 v1 v2 G7)) ∧ (¬ z8 = 0 → (wX2_setStick_b29 Q X v0 v1 v2 (1 : Int32) G7))) ((v2).toInt64) (0 : Int64) (2 : Int64) G1))) ((v1).toInt64) (0 : Int64) (25 : Int64) G
abbrev rmX2_setStick : Room := { frames := 7, cells := 1, slots := 6, locals := 111 }
def wX1_setStick (Q : hG → Int32 → Prop) (X : Bool → hG → Prop) (v0 : Nat) (v1 : Int32) (v2 : Int32) (G : hG) : Prop :=
  hcl G v0 1 ∧ hlet (hR G v0 0) fun y2 => ∃ a3, y2 = some a3 ∧ (hcl G a3 2 ∧ (wX2_copy (fun G4 z5 => ∃ a11, z5 = some a11 ∧ (hcl G4 a11 2 ∧ (wX2_setStick (fun G12 z13 => hcl G12 v0 1 ∧ (wX1_become (fun G18 z19 => Q G18 z19) v0 a11 z13 G12)) X a11 v1 v2 G4))) a3 G))
abbrev rmX1_setStick : Room := { frames := 14, cells := 154, slots := 1459, locals := 373 }
def wX0_setStick (Q : hG → Int32 → Prop) (v0 : Nat) (v1 : Int32) (v2 : Int32) (v3 : Nat) (G : hG) : Prop :=
  hcl G v0 1 ∧ (wX1_setStick (fun G1 z2 => hC G1 v3 = some (101, true) ∧ vp_in (0 : Int32) (hN G1 v3) ∧ hlet (hsJ G1 v3 (Int32.toNatClampNeg (0 : Int32)) ((z2).toInt64)) fun G12 => Q G12 (0 : Int32)) (fun k G5 => hXc k (∀ q4 : Nat, Q G5 (1 : Int32)) False) v0 v1 v2 G)
abbrev rmX0_setStick : Room := { frames := 15, cells := 154, slots := 1459, locals := 396 }
def wX2_isSetting_b74 (Q : hG → Int32 → Prop) (s0 : Int32) (G : hG) : Prop :=
  hFt .boolean s0 ∧ Q G s0
def wX2_isSetting_b73 (Q : hG → Int32 → Prop)  (G : hG) : Prop :=
  wX2_isSetting_b74 Q (0 : Int32) G
def wX2_isSetting (Q : hG → Int32 → Prop) (v0 : Int32) (v1 : Int32) (G : hG) : Prop :=
  (v0 = (0 : Int32) → (wX1_inRange (fun G2 z3 => wX2_isSetting_b74 Q z3 G2) ((v1).toInt64) (0 : Int64) (12 : Int64) G)) ∧ (v0 = (1 : Int32) → (wX1_inRange (fun G8 z9 => wX2_isSetting_b74 Q z9 G8) ((v1).toInt64) (1 : Int64) (9 : Int64) G)) ∧ (¬ v0 = (0 : Int32) ∧ ¬ v0 = (1 : Int32) → ((v0 = (2 : Int32) → (wX1_inRange (fun G14 z15 => (z15 = 0 → (wX2_isSetting_b73 Q G14)) ∧ (¬ z15 = 0 → (wX2_isSetting_b74 Q (1 : Int32) G14))) ((v1).toInt64) (1 : Int64) (5 : Int64) G)) ∧ (¬ v0 = (2 : Int32) → (wX2_isSetting_b73 Q G))))
abbrev rmX2_isSetting : Room := { frames := 1, cells := 0, slots := 0, locals := 25 }
def wX2_set (Q : hG → Int32 → Prop) (X : Bool → hG → Prop) (v0 : Nat) (v1 : Int32) (v2 : Int32) (G : hG) : Prop :=
  wX2_isSetting (fun G1 z2 => wX1_requireArgument (fun G6 => hcl G6 v0 2 ∧ hlet (hR G6 v0 7) fun y11 => ∃ a12, y11 = some a12 ∧ (hcl G6 a12 100 ∧ vp_in v1 (hN G6 a12) ∧ (hcl G6 v0 2 ∧ hlet (hR G6 v0 7) fun y17 => ∃ a18, y17 = some a18 ∧ (hC G6 a18 = some (100, true) ∧ vp_in v1 (hN G6 a18) ∧ hlet (hsI G6 a18 (Int32.toNatClampNeg v1) v2) fun G21 => Q G21 (hI G6 a12 (Int32.toNatClampNeg v1)))))) X z2 (hK G1 125) G1) v1 v2 G
abbrev rmX2_set : Room := { frames := 7, cells := 1, slots := 6, locals := 111 }
def wX1_set (Q : hG → Int32 → Prop) (X : Bool → hG → Prop) (v0 : Nat) (v1 : Int32) (v2 : Int32) (G : hG) : Prop :=
  hcl G v0 1 ∧ hlet (hR G v0 0) fun y2 => ∃ a3, y2 = some a3 ∧ (hcl G a3 2 ∧ (wX2_copy (fun G4 z5 => ∃ a11, z5 = some a11 ∧ (hcl G4 a11 2 ∧ (wX2_set (fun G12 z13 => hcl G12 v0 1 ∧ (wX1_become (fun G18 z19 => Q G18 z19) v0 a11 z13 G12)) X a11 v1 v2 G4))) a3 G))
abbrev rmX1_set : Room := { frames := 14, cells := 154, slots := 1459, locals := 373 }
def wX0_set (Q : hG → Int32 → Prop) (v0 : Nat) (v1 : Int32) (v2 : Int32) (v3 : Nat) (G : hG) : Prop :=
  hcl G v0 1 ∧ (wX1_set (fun G1 z2 => hC G1 v3 = some (101, true) ∧ vp_in (0 : Int32) (hN G1 v3) ∧ hlet (hsJ G1 v3 (Int32.toNatClampNeg (0 : Int32)) ((z2).toInt64)) fun G12 => Q G12 (0 : Int32)) (fun k G5 => hXc k (∀ q4 : Nat, Q G5 (1 : Int32)) False) v0 v1 v2 G)
abbrev rmX0_set : Room := { frames := 15, cells := 154, slots := 1459, locals := 396 }
def wX3_size (Q : hG → Int32 → Prop) (v0 : Nat) (G : hG) : Prop :=
  hcl G v0 3 ∧ hlet (hR G v0 0) fun y2 => ∃ a3, y2 = some a3 ∧ (hcl G a3 18 ∧ (wJ6_size (fun G4 z5 => Q G4 z5) a3 G))
abbrev rmX3_size : Room := { frames := 1, cells := 0, slots := 0, locals := 20 }
def wJ6_elementData (Q : hG → Option Nat → Prop) (v0 : Nat) (v1 : Int32) (G : hG) : Prop :=
  hcl G v0 18 ∧ hlet (hR G v0 1) fun y2 => ∃ a3, y2 = some a3 ∧ (hcl G a3 103 ∧ vp_in v1 (hN G a3) ∧ hlet (hR G a3 (Int32.toNatClampNeg v1)) fun y6 => Q G y6)
abbrev rmJ6_elementData : Room := { frames := 0, cells := 0, slots := 0, locals := 0 }
def wJ6_get (Q : hG → Option Nat → Prop) (v0 : Nat) (v1 : Int32) (G : hG) : Prop :=
  hcl G v0 18 ∧ (wJ11_checkIndex (fun G2 z3 => hcl G2 v0 18 ∧ (wJ6_elementData (fun G7 z8 => Q G7 z8) v0 v1 G2)) v1 (hI G v0 2) G)
abbrev rmJ6_get : Room := { frames := 2, cells := 0, slots := 0, locals := 43 }
def wX3_get (Q : hG → Option Nat → Prop) (v0 : Nat) (v1 : Int32) (G : hG) : Prop :=
  hcl G v0 3 ∧ hlet (hR G v0 0) fun y2 => ∃ a3, y2 = some a3 ∧ (hcl G a3 18 ∧ (wJ6_get (fun G4 z5 => Q G4 z5) a3 v1 G))
abbrev rmX3_get : Room := { frames := 3, cells := 0, slots := 0, locals := 64 }
def wX5_equals_b29 (Q : hG → Int32 → Prop) (s0 : Int32) (G : hG) : Prop :=
  hFt .boolean s0 ∧ Q G s0
def wX5_equals_b28 (Q : hG → Int32 → Prop)  (G : hG) : Prop :=
  wX5_equals_b29 Q (0 : Int32) G
def wX5_equals (Q : hG → Int32 → Prop) (v0 : Nat) (v1 : Option Nat) (G : hG) : Prop :=
  ∃ a1, v1 = some a1 ∧ (hcl G a1 4 ∧ (((1 : Int32) = 0 → (wX5_equals_b28 Q G)) ∧ (¬ (1 : Int32) = 0 → (hcl G a1 4 ∧ (hcl G a1 4 ∧ (hcl G v0 4 ∧ (((hJ G a1 0) = (hJ G v0 0) → (wX5_equals_b29 Q (1 : Int32) G)) ∧ (¬ (hJ G a1 0) = (hJ G v0 0) → (wX5_equals_b28 Q G)))))))))
abbrev rmX5_equals : Room := { frames := 0, cells := 0, slots := 0, locals := 0 }
def wX10_isFor_b31 (Q : hG → Int32 → Prop) (s0 : Int32) (G : hG) : Prop :=
  hFt .boolean s0 ∧ Q G s0
def wX10_isFor_b30 (Q : hG → Int32 → Prop)  (G : hG) : Prop :=
  wX10_isFor_b31 Q (0 : Int32) G
def wX10_isFor (Q : hG → Int32 → Prop) (v0 : Nat) (v1 : Option Nat) (v2 : Option Nat) (G : hG) : Prop :=
  hcl G v0 5 ∧ hlet (hR G v0 0) fun y2 => ∃ a3, y2 = some a3 ∧ (hcl G a3 4 ∧ (wX5_compareTo (fun G4 z5 => (z5 = 0 → (hcl G4 v0 5 ∧ hlet (hR G4 v0 1) fun y12 => ∃ a13, y12 = some a13 ∧ (hcl G4 a13 4 ∧ (wX5_compareTo (fun G14 z15 => (z15 = 0 → (wX10_isFor_b31 Q (1 : Int32) G14)) ∧ (¬ z15 = 0 → (wX10_isFor_b30 Q G14))) a13 v2 G4)))) ∧ (¬ z5 = 0 → (wX10_isFor_b30 Q G4))) a3 v1 G))
abbrev rmX10_isFor : Room := { frames := 3, cells := 0, slots := 0, locals := 65 }
def wX1_placeOf_b45 (Q : hG → Int32 → Prop) (s0 : Int32) (G : hG) : Prop :=
  Q G s0
def wX1_placeOf_b32 (Q : hG → Int32 → Prop) (v0 : Nat) (v3 : Int32) (G : hG) : Prop :=
  hcl G v0 3 ∧ (wX3_size (fun G1 z2 => (v3 = z2 → (wX1_placeOf_b45 Q (-1 : Int32) G1)) ∧ (¬ v3 = z2 → (wX1_placeOf_b45 Q v3 G1))) v0 G)
def wX1_placeOf_b2 (Q : hG → Int32 → Prop) (r2 : Nat → Option Nat → Option Nat → Int32 → hG → Prop) (v0 : Nat) (v1 : Option Nat) (v2 : Option Nat) (v3 : Int32) (G : hG) : Prop :=
  hcl G v0 3 ∧ (wX3_size (fun G1 z2 => (z2 ≤ v3 → (wX1_placeOf_b32 Q v0 v3 G1)) ∧ (¬ z2 ≤ v3 → (hcl G1 v0 3 ∧ (wX3_get (fun G8 z9 => (∀ y, z9 = some y → hcl G8 y 5) ∧ (∃ a15, z9 = some a15 ∧ (hcl G8 a15 5 ∧ (wX10_isFor (fun G16 z17 => (z17 = 0 → (r2 v0 v1 v2 (v3 + (1 : Int32)) G16)) ∧ (¬ z17 = 0 → (wX1_placeOf_b32 Q v0 v3 G16))) a15 v1 v2 G8)))) v0 v3 G1)))) v0 G)
def wX1_placeOf_l2 (Q : hG → Int32 → Prop) (n : Nat) : Nat → Option Nat → Option Nat → Int32 → hG → Prop := Nat.rec (motive := fun _ => Nat → Option Nat → Option Nat → Int32 → hG → Prop) (fun _ _ _ _ _ => False) (fun _ ih => wX1_placeOf_b2 Q ih) n
def wX1_placeOf (Q : hG → Int32 → Prop) (v0 : Nat) (v1 : Option Nat) (v2 : Option Nat) (G : hG) : Prop :=
  ∃ n, wX1_placeOf_l2 Q n v0 v1 v2 (0 : Int32) G
abbrev rmX1_placeOf : Room := { frames := 4, cells := 0, slots := 0, locals := 87 }
def wX2_isBanned_b18 (Q : hG → Int32 → Prop) (s0 : Int32) (G : hG) : Prop :=
  hFt .boolean s0 ∧ Q G s0
def wX2_isBanned (Q : hG → Int32 → Prop) (v0 : Nat) (v1 : Nat) (v2 : Nat) (G : hG) : Prop :=
  hcl G v0 2 ∧ hlet (hR G v0 3) fun y2 => ∃ a3, y2 = some a3 ∧ (wX1_placeOf (fun G4 z5 => (z5 = (-1 : Int32) → (wX2_isBanned_b18 Q (0 : Int32) G4)) ∧ (¬ z5 = (-1 : Int32) → (wX2_isBanned_b18 Q (1 : Int32) G4))) a3 (some v1) (some v2) G)
abbrev rmX2_isBanned : Room := { frames := 5, cells := 0, slots := 0, locals := 110 }
def wX2_learned_b149 (Q : hG → Option Nat → Prop) (r4 : Nat → Nat → Option Nat → Int32 → hG → Prop) (v0 : Nat) (v1 : Nat) (v3 : Int32) (s0 : Option Nat) (G : hG) : Prop :=
  r4 v0 v1 s0 (v3 + (1 : Int32)) G
def wX2_learned_b143 (Q : hG → Option Nat → Prop) (r4 : Nat → Nat → Option Nat → Int32 → hG → Prop) (v0 : Nat) (v1 : Nat) (v3 : Int32) (v4 : Nat) (G : hG) : Prop :=
  wX2_learned_b149 Q r4 v0 v1 v3 (some v4) G
def wX2_learned_b148 (Q : hG → Option Nat → Prop) (r4 : Nat → Nat → Option Nat → Int32 → hG → Prop) (v0 : Nat) (v1 : Nat) (v2 : Option Nat) (v3 : Int32) (G : hG) : Prop :=
  wX2_learned_b149 Q r4 v0 v1 v3 v2 G
def wX2_learned_b120 (Q : hG → Option Nat → Prop) (r4 : Nat → Nat → Option Nat → Int32 → hG → Prop) (v0 : Nat) (v1 : Nat) (v2 : Option Nat) (v3 : Int32) (v4 : Nat) (s0 : Int32) (G : hG) : Prop :=
  (s0 = 0 → (wX2_learned_b148 Q r4 v0 v1 v2 v3 G)) ∧ (¬ s0 = 0 → ((v2 = none → (wX2_learned_b143 Q r4 v0 v1 v3 v4 G)) ∧ (∀ y3, v2 = some y3 → (hcl G v4 5 ∧ (hcl G y3 5 ∧ (((hI G v4 2) ≤ (hI G y3 2) → (wX2_learned_b148 Q r4 v0 v1 (some y3) v3 G)) ∧ (¬ (hI G v4 2) ≤ (hI G y3 2) → (wX2_learned_b143 Q r4 v0 v1 v3 v4 G))))))))
def wX2_learned_b115 (Q : hG → Option Nat → Prop) (r4 : Nat → Nat → Option Nat → Int32 → hG → Prop) (v0 : Nat) (v1 : Nat) (v2 : Option Nat) (v3 : Int32) (v4 : Nat) (G : hG) : Prop :=
  wX2_learned_b120 Q r4 v0 v1 v2 v3 v4 (1 : Int32) G
def wX2_learned_b119 (Q : hG → Option Nat → Prop) (r4 : Nat → Nat → Option Nat → Int32 → hG → Prop) (v0 : Nat) (v1 : Nat) (v2 : Option Nat) (v3 : Int32) (v4 : Nat) (G : hG) : Prop :=
  wX2_learned_b120 Q r4 v0 v1 v2 v3 v4 (0 : Int32) G
def wX2_learned_b78 (Q : hG → Option Nat → Prop) (r4 : Nat → Nat → Option Nat → Int32 → hG → Prop) (v0 : Nat) (v1 : Nat) (v2 : Option Nat) (v3 : Int32) (v4 : Nat) (s0 : Int32) (G : hG) : Prop :=
  (s0 = 0 → (wX2_learned_b119 Q r4 v0 v1 v2 v3 v4 G)) ∧ (¬ s0 = 0 → (hcl G v0 2 ∧ hlet (hR G v0 0) fun y4 => hcl G v4 5 ∧ hlet (hR G v4 1) fun y6 => ∃ a7, y4 = some a7 ∧ (hcl G a7 9 ∧ (wJ1_containsKey (fun G8 z9 => (z9 = 0 → (hcl G8 v0 2 ∧ hlet (hR G8 v0 1) fun y16 => hcl G8 v4 5 ∧ hlet (hR G8 v4 1) fun y18 => ∃ a19, y16 = some a19 ∧ (hcl G8 a19 17 ∧ (wJ4_contains (fun G20 z21 => (z21 = 0 → (wX2_learned_b119 Q r4 v0 v1 v2 v3 v4 G20)) ∧ (¬ z21 = 0 → (wX2_learned_b115 Q r4 v0 v1 v2 v3 v4 G20))) a19 y18 G8)))) ∧ (¬ z9 = 0 → (wX2_learned_b115 Q r4 v0 v1 v2 v3 v4 G8))) a7 y6 G))))
def wX2_learned_b77 (Q : hG → Option Nat → Prop) (r4 : Nat → Nat → Option Nat → Int32 → hG → Prop) (v0 : Nat) (v1 : Nat) (v2 : Option Nat) (v3 : Int32) (v4 : Nat) (G : hG) : Prop :=
  wX2_learned_b78 Q r4 v0 v1 v2 v3 v4 (0 : Int32) G
def wX2_learned_b4 (Q : hG → Option Nat → Prop) (r4 : Nat → Nat → Option Nat → Int32 → hG → Prop) (v0 : Nat) (v1 : Nat) (v2 : Option Nat) (v3 : Int32) (G : hG) : Prop :=
  hcl G v0 2 ∧ hlet (hR G v0 2) fun y2 => ∃ a3, y2 = some a3 ∧ (hcl G a3 3 ∧ (wX3_size (fun G4 z5 => (z5 ≤ v3 → (Q G4 v2)) ∧ (¬ z5 ≤ v3 → (hcl G4 v0 2 ∧ hlet (hR G4 v0 2) fun y12 => ∃ a13, y12 = some a13 ∧ (hcl G4 a13 3 ∧ (wX3_get (fun G14 z15 => (∀ y, z15 = some y → hcl G14 y 5) ∧ (∃ a22, z15 = some a22 ∧ (hcl G14 a22 5 ∧ hlet (hR G14 a22 0) fun y24 => (∀ y, y24 = some y → hcl G14 y 4) ∧ (∃ a26, y24 = some a26 ∧ (hcl G14 a26 4 ∧ (wX5_equals (fun G27 z28 => (z28 = 0 → (wX2_learned_b77 Q r4 v0 v1 v2 v3 a22 G27)) ∧ (¬ z28 = 0 → (hcl G27 a22 5 ∧ (hcl G27 v0 2 ∧ hlet (hR G27 v0 7) fun y36 => ∃ a37, y36 = some a37 ∧ (hcl G27 a37 100 ∧ vp_in (1 : Int32) (hN G27 a37) ∧ (((hI G27 a22 2) < (hI G27 a37 (Int32.toNatClampNeg (1 : Int32))) → (wX2_learned_b77 Q r4 v0 v1 v2 v3 a22 G27)) ∧ (¬ (hI G27 a22 2) < (hI G27 a37 (Int32.toNatClampNeg (1 : Int32))) → (hcl G27 a22 5 ∧ hlet (hR G27 a22 1) fun y42 => (∀ y, y42 = some y → hcl G27 y 4) ∧ (∃ a44, y42 = some a44 ∧ (hcl G27 v0 2 ∧ (wX2_isBanned (fun G45 z46 => (z46 = 0 → (wX2_learned_b78 Q r4 v0 v1 v2 v3 a22 (1 : Int32) G45)) ∧ (¬ z46 = 0 → (wX2_learned_b77 Q r4 v0 v1 v2 v3 a22 G45))) v0 v1 a44 G27))))))))))) a26 (some v1) G14)))))) a13 v3 G4))))) a3 G))
def wX2_learned_l4 (Q : hG → Option Nat → Prop) (n : Nat) : Nat → Nat → Option Nat → Int32 → hG → Prop := Nat.rec (motive := fun _ => Nat → Nat → Option Nat → Int32 → hG → Prop) (fun _ _ _ _ _ => False) (fun _ ih => wX2_learned_b4 Q ih) n
def wX2_learned (Q : hG → Option Nat → Prop) (v0 : Nat) (v1 : Nat) (G : hG) : Prop :=
  ∃ n, wX2_learned_l4 Q n v0 v1 none (0 : Int32) G
abbrev rmX2_learned : Room := { frames := 6, cells := 0, slots := 0, locals := 132 }
def wX6_init (Q : hG → Prop) (v0 : Nat) (G : hG) : Prop :=
  Q G
abbrev rmX6_init : Room := { frames := 1, cells := 0, slots := 0, locals := 12 }
def wJ2_init_c19 (Q : hG → Prop) (v0 : Nat) (G : hG) : Prop :=
  Q G
abbrev rmJ2_init_c19 : Room := { frames := 1, cells := 0, slots := 0, locals := 12 }
def wJ34_init_c19 (Q : hG → Prop) (v0 : Nat) (G : hG) : Prop :=
  wJ2_init_c19 (fun G1 => Q G1) v0 G
abbrev rmJ34_init_c19 : Room := { frames := 2, cells := 0, slots := 0, locals := 32 }
def wJ35_init_2 (Q : hG → Prop) (v0 : Nat) (v1 : Int32) (v2 : Option Nat) (G : hG) : Prop :=
  wJ34_init_c19 (fun G1 => ((1 : Int32) ≤ v1 → (¬ v1 < 0 ∧ (Int32.toNatClampNeg v1) ≤ 11 ∧ ∀ q6, hfr G1 q6 → hlet (hnw G1 q6 103 (Int32.toNatClampNeg v1)) fun G7 => hC G7 v0 = some (19, true) ∧ hlet (hsR G7 v0 0 (some q6)) fun G14 => hC G14 v0 = some (19, true) ∧ hlet (hsR G14 v0 2 v2) fun G18 => Q G18)) ∧ (¬ (1 : Int32) ≤ v1 → (False))) v0 G
abbrev rmJ35_init_2 : Room := { frames := 3, cells := 1, slots := 11, locals := 52 }
def wJ35_init (Q : hG → Prop) (v0 : Nat) (v1 : Option Nat) (G : hG) : Prop :=
  wJ35_init_2 (fun G1 => Q G1) v0 (11 : Int32) v1 G
abbrev rmJ35_init : Room := { frames := 4, cells := 1, slots := 11, locals := 74 }
def wJ1_keySet (Q : hG → Option Nat → Prop) (v0 : Nat) (G : hG) : Prop :=
  hcl G v0 9 ∧ (wJ1_navigableKeySet (fun G1 z2 => Q G1 z2) v0 G)
abbrev rmJ1_keySet : Room := { frames := 5, cells := 1, slots := 1, locals := 94 }
def wX7_init (Q : hG → Prop) (v0 : Nat) (v1 : Option Nat) (v2 : Option Nat) (v3 : Nat) (G : hG) : Prop :=
  ∀ q1, hfr G q1 → hlet (hnw G q1 100 81) fun G2 => hC G2 v0 = some (7, true) ∧ hlet (hsR G2 v0 3 (some q1)) fun G7 => hC G7 v0 = some (7, true) ∧ hlet (hsR G7 v0 0 v1) fun G11 => hC G11 v0 = some (7, true) ∧ hlet (hsR G11 v0 1 v2) fun G15 => hC G15 v0 = some (7, true) ∧ hlet (hsR G15 v0 2 (some v3)) fun G19 => Q G19
abbrev rmX7_init : Room := { frames := 1, cells := 1, slots := 81, locals := 12 }
def wX5_length (Q : hG → Int32 → Prop) (v0 : Nat) (G : hG) : Prop :=
  hcl G v0 4 ∧ (Q G (hI G v0 1))
abbrev rmX5_length : Room := { frames := 0, cells := 0, slots := 0, locals := 0 }
def wX7_at (Q : hG → Int32 → Prop) (v0 : Int32) (v1 : Int32) (G : hG) : Prop :=
  Q G (((9 : Int32) * v0) + v1)
abbrev rmX7_at : Room := { frames := 0, cells := 0, slots := 0, locals := 0 }
def wX7_sticks_b18 (Q : hG → Int32 → Prop) (s0 : Int32) (G : hG) : Prop :=
  hFt .boolean s0 ∧ Q G s0
def wX7_sticks (Q : hG → Int32 → Prop) (v0 : Nat) (v1 : Int32) (v2 : Int32) (G : hG) : Prop :=
  hcl G v0 7 ∧ hlet (hR G v0 2) fun y2 => ∃ a3, y2 = some a3 ∧ (hcl G a3 100 ∧ vp_in (v1 - (97 : Int32)) (hN G a3) ∧ (((hI G a3 (Int32.toNatClampNeg (v1 - (97 : Int32)))) = v2 → (wX7_sticks_b18 Q (1 : Int32) G)) ∧ (¬ (hI G a3 (Int32.toNatClampNeg (v1 - (97 : Int32)))) = v2 → (wX7_sticks_b18 Q (0 : Int32) G))))
abbrev rmX7_sticks : Room := { frames := 0, cells := 0, slots := 0, locals := 0 }
def wX7_goes_b58 (Q : hG → Int32 → Prop) (s0 : Int32) (G : hG) : Prop :=
  Q G s0
def wX7_goes_b48 (Q : hG → Int32 → Prop) (s0 : Int32) (G : hG) : Prop :=
  (s0 = 0 → (wX7_goes_b58 Q (3 : Int32) G)) ∧ (¬ s0 = 0 → (wX7_goes_b58 Q (1 : Int32) G))
def wX7_goes_b47 (Q : hG → Int32 → Prop)  (G : hG) : Prop :=
  wX7_goes_b48 Q (0 : Int32) G
def wX7_goes (Q : hG → Int32 → Prop) (v0 : Nat) (v1 : Int32) (G : hG) : Prop :=
  hcl G v0 7 ∧ hlet (hR G v0 0) fun y2 => ∃ a3, y2 = some a3 ∧ (hcl G a3 4 ∧ (wX5_charAt (fun G4 z5 => (v1 ≤ (1 : Int32) → (wX7_goes_b47 Q G4)) ∧ (¬ v1 ≤ (1 : Int32) → (hcl G4 v0 7 ∧ hlet (hR G4 v0 0) fun y13 => ∃ a14, y13 = some a14 ∧ (hcl G4 a14 4 ∧ (wX5_charAt (fun G15 z16 => (z16 = z5 → (hcl G15 v0 7 ∧ (wX7_sticks (fun G22 z23 => (z23 = 0 → (wX7_goes_b47 Q G22)) ∧ (¬ z23 = 0 → (wX7_goes_b48 Q (1 : Int32) G22))) v0 z5 (2 : Int32) G15))) ∧ (¬ z16 = z5 → (wX7_goes_b47 Q G15))) a14 (v1 - (2 : Int32)) G4))))) a3 (v1 - (1 : Int32)) G))
abbrev rmX7_goes : Room := { frames := 1, cells := 0, slots := 0, locals := 22 }
def wX7_comes_b25 (Q : hG → Int32 → Prop) (s0 : Int32) (G : hG) : Prop :=
  Q G s0
def wX7_comes (Q : hG → Int32 → Prop) (v0 : Nat) (v1 : Int32) (G : hG) : Prop :=
  hcl G v0 7 ∧ hlet (hR G v0 1) fun y2 => ∃ a3, y2 = some a3 ∧ (hcl G a3 4 ∧ (wX5_charAt (fun G4 z5 => hcl G4 v0 7 ∧ (wX7_sticks (fun G10 z11 => (z11 = 0 → (wX7_comes_b25 Q (3 : Int32) G10)) ∧ (¬ z11 = 0 → (wX7_comes_b25 Q (1 : Int32) G10))) v0 z5 (1 : Int32) G4)) a3 (v1 - (1 : Int32)) G))
abbrev rmX7_comes : Room := { frames := 1, cells := 0, slots := 0, locals := 22 }
def wX8_row_b40 (Q : hG → Option Nat → Prop) (s0 : Nat) (G : hG) : Prop :=
  Q G (some s0)
def wX8_row (Q : hG → Option Nat → Prop) (v0 : Int32) (G : hG) : Prop :=
  (v0 = (0 : Int32) → (wX8_row_b40 Q (hK G 128) G)) ∧ (v0 = (1 : Int32) → (wX8_row_b40 Q (hK G 129) G)) ∧ (¬ v0 = (0 : Int32) ∧ ¬ v0 = (1 : Int32) → (wX8_row_b40 Q (hK G 130) G))
abbrev rmX8_row : Room := { frames := 0, cells := 0, slots := 0, locals := 0 }
def wJ12_coder (Q : hG → Int32 → Prop) (v0 : Nat) (G : hG) : Prop :=
  ((1 : Int32) = 0 → (False)) ∧ (¬ (1 : Int32) = 0 → (hcl G v0 21 ∧ (hFt .byte (hI G v0 1) ∧ Q G (hI G v0 1))))
abbrev rmJ12_coder : Room := { frames := 0, cells := 0, slots := 0, locals := 0 }
def wJ12_length (Q : hG → Int32 → Prop) (v0 : Nat) (G : hG) : Prop :=
  hcl G v0 21 ∧ hlet (hR G v0 0) fun y2 => ∃ a3, y2 = some a3 ∧ (hcl G a3 102 ∧ (hcl G v0 21 ∧ (wJ12_coder (fun G5 z6 => Q G5 ((nI (hN G a3)) >>> (z6 &&& 31))) v0 G)))
abbrev rmJ12_length : Room := { frames := 1, cells := 0, slots := 0, locals := 20 }
def wJ12_isLatin1_b18 (Q : hG → Int32 → Prop) (s0 : Int32) (G : hG) : Prop :=
  hFt .boolean s0 ∧ Q G s0
def wJ12_isLatin1_b17 (Q : hG → Int32 → Prop)  (G : hG) : Prop :=
  wJ12_isLatin1_b18 Q (0 : Int32) G
def wJ12_isLatin1 (Q : hG → Int32 → Prop) (v0 : Nat) (G : hG) : Prop :=
  ((1 : Int32) = 0 → (wJ12_isLatin1_b17 Q G)) ∧ (¬ (1 : Int32) = 0 → (hcl G v0 21 ∧ (((hI G v0 1) = 0 → (wJ12_isLatin1_b18 Q (1 : Int32) G)) ∧ (¬ (hI G v0 1) = 0 → (wJ12_isLatin1_b17 Q G)))))
abbrev rmJ12_isLatin1 : Room := { frames := 0, cells := 0, slots := 0, locals := 0 }
def wJ12_checkIndex (Q : hG → Prop) (v0 : Int32) (v1 : Int32) (G : hG) : Prop :=
  ∀ y1 : Option Nat, wJ29_checkIndex (fun G2 z3 => Q G2) v0 v1 y1 G
abbrev rmJ12_checkIndex : Room := { frames := 1, cells := 0, slots := 0, locals := 22 }
def wJ13_charAt (Q : hG → Int32 → Prop) (v0 : Nat) (v1 : Int32) (G : hG) : Prop :=
  hcl G v0 102 ∧ (wJ12_checkIndex (fun G2 => hcl G2 v0 102 ∧ vp_in v1 (hN G2 v0) ∧ (hFt .char (((((hI G2 v0 (Int32.toNatClampNeg v1)) &&& (255 : Int32))).toUInt32 % 65536).toInt32) ∧ Q G2 (((((hI G2 v0 (Int32.toNatClampNeg v1)) &&& (255 : Int32))).toUInt32 % 65536).toInt32))) v1 (nI (hN G v0)) G)
abbrev rmJ13_charAt : Room := { frames := 2, cells := 0, slots := 0, locals := 43 }
def wJ12_charAt (Q : hG → Int32 → Prop) (v0 : Nat) (v1 : Int32) (G : hG) : Prop :=
  hcl G v0 21 ∧ (wJ12_isLatin1 (fun G1 z2 => (z2 = 0 → (False)) ∧ (¬ z2 = 0 → (hcl G1 v0 21 ∧ hlet (hR G1 v0 0) fun y9 => ∃ a10, y9 = some a10 ∧ (wJ13_charAt (fun G11 z12 => hFt .char z12 ∧ Q G11 z12) a10 v1 G1)))) v0 G)
abbrev rmJ12_charAt : Room := { frames := 3, cells := 0, slots := 0, locals := 64 }
def wX8_columnIn_b43 (Q : hG → Int32 → Prop) (s0 : Int32) (G : hG) : Prop :=
  Q G s0
def wX8_columnIn_b30 (Q : hG → Int32 → Prop) (v2 : Nat) (v3 : Int32) (G : hG) : Prop :=
  hcl G v2 21 ∧ (wJ12_length (fun G1 z2 => (v3 = z2 → (wX8_columnIn_b43 Q (-1 : Int32) G1)) ∧ (¬ v3 = z2 → (wX8_columnIn_b43 Q v3 G1))) v2 G)
def wX8_columnIn_b7 (Q : hG → Int32 → Prop) (r7 : Int32 → Option Nat → Int32 → hG → Prop) (v1 : Int32) (v2 : Option Nat) (v3 : Int32) (G : hG) : Prop :=
  ∃ a1, v2 = some a1 ∧ (hcl G a1 21 ∧ (wJ12_length (fun G2 z3 => (z3 ≤ v3 → (wX8_columnIn_b30 Q a1 v3 G2)) ∧ (¬ z3 ≤ v3 → (hcl G2 a1 21 ∧ (wJ12_charAt (fun G9 z10 => (z10 = v1 → (wX8_columnIn_b30 Q a1 v3 G9)) ∧ (¬ z10 = v1 → (r7 v1 (some a1) (v3 + (1 : Int32)) G9))) a1 v3 G2)))) a1 G))
def wX8_columnIn_l7 (Q : hG → Int32 → Prop) (n : Nat) : Int32 → Option Nat → Int32 → hG → Prop := Nat.rec (motive := fun _ => Int32 → Option Nat → Int32 → hG → Prop) (fun _ _ _ _ => False) (fun _ ih => wX8_columnIn_b7 Q ih) n
def wX8_columnIn (Q : hG → Int32 → Prop) (v0 : Int32) (v1 : Int32) (G : hG) : Prop :=
  wX8_row (fun G1 z2 => ∃ n, wX8_columnIn_l7 Q n v1 z2 (0 : Int32) G1) v0 G
abbrev rmX8_columnIn : Room := { frames := 4, cells := 0, slots := 0, locals := 85 }
def wX8_rowOf_b27 (Q : hG → Int32 → Prop) (s0 : Int32) (G : hG) : Prop :=
  Q G s0
def wX8_rowOf (Q : hG → Int32 → Prop) (v0 : Int32) (G : hG) : Prop :=
  wX8_columnIn (fun G1 z2 => (z2 = (-1 : Int32) → (wX8_columnIn (fun G7 z8 => (z8 = (-1 : Int32) → (wX8_rowOf_b27 Q (2 : Int32) G7)) ∧ (¬ z8 = (-1 : Int32) → (wX8_rowOf_b27 Q (1 : Int32) G7))) (1 : Int32) v0 G1)) ∧ (¬ z2 = (-1 : Int32) → (wX8_rowOf_b27 Q (0 : Int32) G1))) (0 : Int32) v0 G
abbrev rmX8_rowOf : Room := { frames := 5, cells := 0, slots := 0, locals := 108 }
def wX8_columnOf (Q : hG → Int32 → Prop) (v0 : Int32) (G : hG) : Prop :=
  wX8_rowOf (fun G1 z2 => wX8_columnIn (fun G6 z7 => Q G6 z7) z2 v0 G1) v0 G
abbrev rmX8_columnOf : Room := { frames := 6, cells := 0, slots := 0, locals := 128 }
def wX8_areBeside_L0_b71 (Q : hG → Int32 → Prop) (s0 : Int32) (G : hG) : Prop :=
  hFt .boolean s0 ∧ Q G s0
def wX8_areBeside_L0_b44 (Q : hG → Int32 → Prop)  (G : hG) : Prop :=
  wX8_areBeside_L0_b71 Q (1 : Int32) G
def wX8_areBeside_L0_b66 (Q : hG → Int32 → Prop)  (G : hG) : Prop :=
  wX8_areBeside_L0_b71 Q (1 : Int32) G
def wX8_areBeside_L0_b70 (Q : hG → Int32 → Prop)  (G : hG) : Prop :=
  wX8_areBeside_L0_b71 Q (0 : Int32) G
def wX8_areBeside_L0 (Q : hG → Int32 → Prop) (v0 : Int32) (v1 : Int32) (G : hG) : Prop :=
  wX8_rowOf (fun G1 z2 => wX8_rowOf (fun G6 z7 => (0 ≤ (z2 - z7) → (wX8_columnOf (fun G13 z14 => wX8_columnOf (fun G18 z19 => ((z2 - z7) = 0 → (((z14 - z19) = (1 : Int32) → (wX8_areBeside_L0_b44 Q G18)) ∧ (¬ (z14 - z19) = (1 : Int32) → (((z14 - z19) = (-1 : Int32) → (wX8_areBeside_L0_b44 Q G18)) ∧ (¬ (z14 - z19) = (-1 : Int32) → (wX8_areBeside_L0_b71 Q (0 : Int32) G18)))))) ∧ (¬ (z2 - z7) = 0 → (((z2 - z7) = (1 : Int32) → (((z14 - z19) = 0 → (wX8_areBeside_L0_b66 Q G18)) ∧ (¬ (z14 - z19) = 0 → (((z14 - z19) = (1 : Int32) → (wX8_areBeside_L0_b66 Q G18)) ∧ (¬ (z14 - z19) = (1 : Int32) → (wX8_areBeside_L0_b70 Q G18)))))) ∧ (¬ (z2 - z7) = (1 : Int32) → (wX8_areBeside_L0_b70 Q G18))))) v1 G13) v0 G6)) ∧ (¬ 0 ≤ (z2 - z7) → (False))) v0 G1) v1 G
abbrev rmX8_areBeside_L0 : Room := { frames := 7, cells := 0, slots := 0, locals := 148 }
def wX8_areBeside_L1_b71 (Q : hG → Int32 → Prop) (s0 : Int32) (G : hG) : Prop :=
  hFt .boolean s0 ∧ Q G s0
def wX8_areBeside_L1_b44 (Q : hG → Int32 → Prop)  (G : hG) : Prop :=
  wX8_areBeside_L1_b71 Q (1 : Int32) G
def wX8_areBeside_L1_b66 (Q : hG → Int32 → Prop)  (G : hG) : Prop :=
  wX8_areBeside_L1_b71 Q (1 : Int32) G
def wX8_areBeside_L1_b70 (Q : hG → Int32 → Prop)  (G : hG) : Prop :=
  wX8_areBeside_L1_b71 Q (0 : Int32) G
def wX8_areBeside_L1 (Q : hG → Int32 → Prop) (v0 : Int32) (v1 : Int32) (G : hG) : Prop :=
  wX8_rowOf (fun G1 z2 => wX8_rowOf (fun G6 z7 => (0 ≤ (z2 - z7) → (wX8_columnOf (fun G13 z14 => wX8_columnOf (fun G18 z19 => ((z2 - z7) = 0 → (((z14 - z19) = (1 : Int32) → (wX8_areBeside_L1_b44 Q G18)) ∧ (¬ (z14 - z19) = (1 : Int32) → (((z14 - z19) = (-1 : Int32) → (wX8_areBeside_L1_b44 Q G18)) ∧ (¬ (z14 - z19) = (-1 : Int32) → (wX8_areBeside_L1_b71 Q (0 : Int32) G18)))))) ∧ (¬ (z2 - z7) = 0 → (((z2 - z7) = (1 : Int32) → (((z14 - z19) = 0 → (wX8_areBeside_L1_b66 Q G18)) ∧ (¬ (z14 - z19) = 0 → (((z14 - z19) = (1 : Int32) → (wX8_areBeside_L1_b66 Q G18)) ∧ (¬ (z14 - z19) = (1 : Int32) → (wX8_areBeside_L1_b70 Q G18)))))) ∧ (¬ (z2 - z7) = (1 : Int32) → (wX8_areBeside_L1_b70 Q G18))))) v1 G13) v0 G6)) ∧ (¬ 0 ≤ (z2 - z7) → (wX8_areBeside_L0 (fun G30 z31 => hFt .boolean z31 ∧ Q G30 z31) v1 v0 G6))) v0 G1) v1 G
abbrev rmX8_areBeside_L1 : Room := { frames := 8, cells := 0, slots := 0, locals := 171 }
def wX7_becomes_b51 (Q : hG → Int32 → Prop) (s0 : Int32) (G : hG) : Prop :=
  Q G s0
def wX7_becomes (Q : hG → Int32 → Prop) (v0 : Nat) (v1 : Int32) (v2 : Int32) (G : hG) : Prop :=
  hcl G v0 7 ∧ hlet (hR G v0 0) fun y2 => ∃ a3, y2 = some a3 ∧ (hcl G a3 4 ∧ (wX5_charAt (fun G4 z5 => hcl G4 v0 7 ∧ hlet (hR G4 v0 1) fun y12 => ∃ a13, y12 = some a13 ∧ (hcl G4 a13 4 ∧ (wX5_charAt (fun G14 z15 => (z5 = z15 → (wX7_becomes_b51 Q (0 : Int32) G14)) ∧ (¬ z5 = z15 → (wX8_areBeside_L1 (fun G22 z23 => (z23 = 0 → (wX7_becomes_b51 Q (4 : Int32) G22)) ∧ (¬ z23 = 0 → (wX7_becomes_b51 Q (2 : Int32) G22))) z5 z15 G14))) a13 (v2 - (1 : Int32)) G4))) a3 (v1 - (1 : Int32)) G))
abbrev rmX7_becomes : Room := { frames := 9, cells := 0, slots := 0, locals := 194 }
def wX7_changesPlaces_b69 (Q : hG → Int32 → Prop) (s0 : Int32) (G : hG) : Prop :=
  hFt .boolean s0 ∧ Q G s0
def wX7_changesPlaces_b68 (Q : hG → Int32 → Prop)  (G : hG) : Prop :=
  wX7_changesPlaces_b69 Q (0 : Int32) G
def wX7_changesPlaces (Q : hG → Int32 → Prop) (v0 : Nat) (v1 : Int32) (v2 : Int32) (G : hG) : Prop :=
  (v1 ≤ (1 : Int32) → (wX7_changesPlaces_b68 Q G)) ∧ (¬ v1 ≤ (1 : Int32) → ((v2 ≤ (1 : Int32) → (wX7_changesPlaces_b68 Q G)) ∧ (¬ v2 ≤ (1 : Int32) → (hcl G v0 7 ∧ hlet (hR G v0 0) fun y4 => ∃ a5, y4 = some a5 ∧ (hcl G a5 4 ∧ (wX5_charAt (fun G6 z7 => hcl G6 v0 7 ∧ hlet (hR G6 v0 1) fun y13 => ∃ a14, y13 = some a14 ∧ (hcl G6 a14 4 ∧ (wX5_charAt (fun G15 z16 => (z7 = z16 → (hcl G15 v0 7 ∧ hlet (hR G15 v0 0) fun y23 => ∃ a24, y23 = some a24 ∧ (hcl G15 a24 4 ∧ (wX5_charAt (fun G25 z26 => hcl G25 v0 7 ∧ hlet (hR G25 v0 1) fun y32 => ∃ a33, y32 = some a33 ∧ (hcl G25 a33 4 ∧ (wX5_charAt (fun G34 z35 => (z26 = z35 → (wX7_changesPlaces_b69 Q (1 : Int32) G34)) ∧ (¬ z26 = z35 → (wX7_changesPlaces_b68 Q G34))) a33 (v2 - (1 : Int32)) G25))) a24 (v1 - (2 : Int32)) G15)))) ∧ (¬ z7 = z16 → (wX7_changesPlaces_b68 Q G15))) a14 (v2 - (2 : Int32)) G6))) a5 (v1 - (1 : Int32)) G))))))
abbrev rmX7_changesPlaces : Room := { frames := 1, cells := 0, slots := 0, locals := 21 }
def wX8_handOf_b13 (Q : hG → Int32 → Prop) (s0 : Int32) (G : hG) : Prop :=
  Q G s0
def wX8_handOf (Q : hG → Int32 → Prop) (v0 : Int32) (G : hG) : Prop :=
  wX8_columnOf (fun G1 z2 => ((5 : Int32) ≤ z2 → (wX8_handOf_b13 Q (1 : Int32) G1)) ∧ (¬ (5 : Int32) ≤ z2 → (wX8_handOf_b13 Q (0 : Int32) G1))) v0 G
abbrev rmX8_handOf : Room := { frames := 7, cells := 0, slots := 0, locals := 148 }
def wX7_changing_b38 (Q : hG → Int32 → Prop) (s0 : Int32) (G : hG) : Prop :=
  Q G s0
def wX7_changing (Q : hG → Int32 → Prop) (v0 : Nat) (v1 : Int32) (G : hG) : Prop :=
  hcl G v0 7 ∧ hlet (hR G v0 0) fun y2 => ∃ a3, y2 = some a3 ∧ (hcl G a3 4 ∧ (wX5_charAt (fun G4 z5 => wX8_handOf (fun G10 z11 => hcl G10 v0 7 ∧ hlet (hR G10 v0 0) fun y16 => ∃ a17, y16 = some a17 ∧ (hcl G10 a17 4 ∧ (wX5_charAt (fun G18 z19 => wX8_handOf (fun G24 z25 => (z11 = z25 → (wX7_changing_b38 Q (3 : Int32) G24)) ∧ (¬ z11 = z25 → (wX7_changing_b38 Q (1 : Int32) G24))) z19 G18) a17 (v1 - (2 : Int32)) G10))) z5 G4) a3 (v1 - (1 : Int32)) G))
abbrev rmX7_changing : Room := { frames := 8, cells := 0, slots := 0, locals := 168 }
def wX7_leastOf_b137 (Q : hG → Int32 → Prop) (v3 : Int32) (G : hG) : Prop :=
  Q G v3
def wX7_leastOf_b103 (Q : hG → Int32 → Prop) (v0 : Nat) (v1 : Int32) (v2 : Int32) (v3 : Int32) (G : hG) : Prop :=
  hcl G v0 7 ∧ (wX7_changesPlaces (fun G1 z2 => (z2 = 0 → (wX7_leastOf_b137 Q v3 G1)) ∧ (¬ z2 = 0 → (hcl G1 v0 7 ∧ hlet (hR G1 v0 3) fun y9 => wX7_at (fun G10 z11 => ∃ a15, y9 = some a15 ∧ (hcl G10 a15 100 ∧ vp_in z11 (hN G10 a15) ∧ (hcl G10 v0 7 ∧ (wX7_changing (fun G18 z19 => hlet (hMn v3 ((hI G10 a15 (Int32.toNatClampNeg z11)) + z19)) fun x24 => wX7_leastOf_b137 Q x24 G18) v0 v1 G10)))) (v1 - (2 : Int32)) (v2 - (2 : Int32)) G1))) v0 v1 v2 G)
def wX7_leastOf_b69 (Q : hG → Int32 → Prop) (v0 : Nat) (v1 : Int32) (v2 : Int32) (v3 : Int32) (G : hG) : Prop :=
  (v1 ≤ 0 → (wX7_leastOf_b103 Q v0 v1 v2 v3 G)) ∧ (¬ v1 ≤ 0 → ((v2 ≤ 0 → (wX7_leastOf_b103 Q v0 v1 v2 v3 G)) ∧ (¬ v2 ≤ 0 → (hcl G v0 7 ∧ hlet (hR G v0 3) fun y4 => wX7_at (fun G5 z6 => ∃ a10, y4 = some a10 ∧ (hcl G5 a10 100 ∧ vp_in z6 (hN G5 a10) ∧ (hcl G5 v0 7 ∧ (wX7_becomes (fun G13 z14 => hlet (hMn v3 ((hI G5 a10 (Int32.toNatClampNeg z6)) + z14)) fun x19 => wX7_leastOf_b103 Q v0 v1 v2 x19 G13) v0 v1 v2 G5)))) (v1 - (1 : Int32)) (v2 - (1 : Int32)) G))))
def wX7_leastOf_b42 (Q : hG → Int32 → Prop) (v0 : Nat) (v1 : Int32) (v2 : Int32) (v3 : Int32) (G : hG) : Prop :=
  (v2 ≤ 0 → (wX7_leastOf_b69 Q v0 v1 v2 v3 G)) ∧ (¬ v2 ≤ 0 → (hcl G v0 7 ∧ hlet (hR G v0 3) fun y3 => wX7_at (fun G4 z5 => ∃ a9, y3 = some a9 ∧ (hcl G4 a9 100 ∧ vp_in z5 (hN G4 a9) ∧ (hcl G4 v0 7 ∧ (wX7_comes (fun G12 z13 => hlet (hMn v3 ((hI G4 a9 (Int32.toNatClampNeg z5)) + z13)) fun x18 => wX7_leastOf_b69 Q v0 v1 v2 x18 G12) v0 v2 G4)))) v1 (v2 - (1 : Int32)) G))
def wX7_leastOf_b14 (Q : hG → Int32 → Prop) (v0 : Nat) (v1 : Int32) (v2 : Int32) (s0 : Int32) (G : hG) : Prop :=
  (v1 ≤ 0 → (wX7_leastOf_b42 Q v0 v1 v2 s0 G)) ∧ (¬ v1 ≤ 0 → (hcl G v0 7 ∧ hlet (hR G v0 3) fun y4 => wX7_at (fun G5 z6 => ∃ a10, y4 = some a10 ∧ (hcl G5 a10 100 ∧ vp_in z6 (hN G5 a10) ∧ (hcl G5 v0 7 ∧ (wX7_goes (fun G13 z14 => hlet (hMn s0 ((hI G5 a10 (Int32.toNatClampNeg z6)) + z14)) fun x19 => wX7_leastOf_b42 Q v0 v1 v2 x19 G13) v0 v1 G5)))) (v1 - (1 : Int32)) v2 G))
def wX7_leastOf_b12 (Q : hG → Int32 → Prop) (v0 : Nat) (v1 : Int32) (v2 : Int32) (G : hG) : Prop :=
  wX7_leastOf_b14 Q v0 v1 v2 (2147483647 : Int32) G
def wX7_leastOf (Q : hG → Int32 → Prop) (v0 : Nat) (v1 : Int32) (v2 : Int32) (G : hG) : Prop :=
  (v1 = 0 → ((v2 = 0 → (wX7_leastOf_b14 Q v0 v1 v2 (0 : Int32) G)) ∧ (¬ v2 = 0 → (wX7_leastOf_b12 Q v0 v1 v2 G)))) ∧ (¬ v1 = 0 → (wX7_leastOf_b12 Q v0 v1 v2 G))
abbrev rmX7_leastOf : Room := { frames := 10, cells := 0, slots := 0, locals := 218 }
def wX7_distance_b17 (Q : hG → Int32 → Prop) (r2 : Nat → Int32 → hG → Prop) (r17 : Nat → Int32 → Int32 → hG → Prop) (v0 : Nat) (v1 : Int32) (v2 : Int32) (G : hG) : Prop :=
  hcl G v0 7 ∧ hlet (hR G v0 1) fun y2 => ∃ a3, y2 = some a3 ∧ (hcl G a3 4 ∧ (wX5_length (fun G4 z5 => (z5 < v2 → (r2 v0 (v1 + (1 : Int32)) G4)) ∧ (¬ z5 < v2 → (hcl G4 v0 7 ∧ hlet (hR G4 v0 3) fun y13 => wX7_at (fun G14 z15 => hcl G14 v0 7 ∧ (wX7_leastOf (fun G19 z20 => ∃ a25, y13 = some a25 ∧ (hC G19 a25 = some (100, true) ∧ vp_in z15 (hN G19 a25) ∧ hlet (hsI G19 a25 (Int32.toNatClampNeg z15) z20) fun G28 => r17 v0 v1 (v2 + (1 : Int32)) G28)) v0 v1 v2 G14)) v1 v2 G4))) a3 G))
def wX7_distance_l17 (Q : hG → Int32 → Prop) (r2 : Nat → Int32 → hG → Prop) (n : Nat) : Nat → Int32 → Int32 → hG → Prop := Nat.rec (motive := fun _ => Nat → Int32 → Int32 → hG → Prop) (fun _ _ _ _ => False) (fun _ ih => wX7_distance_b17 Q r2 ih) n
def wX7_distance_b2 (Q : hG → Int32 → Prop) (r2 : Nat → Int32 → hG → Prop) (v0 : Nat) (v1 : Int32) (G : hG) : Prop :=
  hcl G v0 7 ∧ hlet (hR G v0 0) fun y2 => ∃ a3, y2 = some a3 ∧ (hcl G a3 4 ∧ (wX5_length (fun G4 z5 => (z5 < v1 → (hcl G4 v0 7 ∧ hlet (hR G4 v0 3) fun y12 => hcl G4 v0 7 ∧ hlet (hR G4 v0 0) fun y14 => ∃ a15, y14 = some a15 ∧ (hcl G4 a15 4 ∧ (wX5_length (fun G16 z17 => hcl G16 v0 7 ∧ hlet (hR G16 v0 1) fun y23 => ∃ a24, y23 = some a24 ∧ (hcl G16 a24 4 ∧ (wX5_length (fun G25 z26 => wX7_at (fun G31 z32 => ∃ a36, y12 = some a36 ∧ (hcl G31 a36 100 ∧ vp_in z32 (hN G31 a36) ∧ (Q G31 (hI G31 a36 (Int32.toNatClampNeg z32))))) z17 z26 G25) a24 G16))) a15 G4)))) ∧ (¬ z5 < v1 → (∃ n, wX7_distance_l17 Q r2 n v0 v1 (0 : Int32) G4))) a3 G))
def wX7_distance_l2 (Q : hG → Int32 → Prop) (n : Nat) : Nat → Int32 → hG → Prop := Nat.rec (motive := fun _ => Nat → Int32 → hG → Prop) (fun _ _ _ => False) (fun _ ih => wX7_distance_b2 Q ih) n
def wX7_distance (Q : hG → Int32 → Prop) (v0 : Nat) (G : hG) : Prop :=
  ∃ n, wX7_distance_l2 Q n v0 (0 : Int32) G
abbrev rmX7_distance : Room := { frames := 11, cells := 0, slots := 0, locals := 241 }
def wX2_distance (Q : hG → Int32 → Prop) (v0 : Nat) (v1 : Nat) (v2 : Nat) (G : hG) : Prop :=
  ∀ q1, hfr G q1 → hlet (hnw G q1 7 0) fun G2 => hcl G2 v0 2 ∧ hlet (hR G2 v0 6) fun y7 => ∃ a8, y7 = some a8 ∧ (wX7_init (fun G9 => hcl G9 q1 7 ∧ (wX7_distance (fun G13 z14 => Q G13 z14) q1 G9)) q1 (some v1) (some v2) a8 G2)
abbrev rmX2_distance : Room := { frames := 12, cells := 2, slots := 85, locals := 263 }
def wJ1_get_b18 (Q : hG → Option Nat → Prop) (s0 : Option Nat) (G : hG) : Prop :=
  Q G s0
def wJ1_get (Q : hG → Option Nat → Prop) (v0 : Nat) (v1 : Option Nat) (G : hG) : Prop :=
  hcl G v0 9 ∧ (wJ1_getEntry (fun G1 z2 => (z2 = none → (wJ1_get_b18 Q none G1)) ∧ (∀ y8, z2 = some y8 → (hcl G1 y8 10 ∧ hlet (hR G1 y8 1) fun y11 => wJ1_get_b18 Q y11 G1))) v0 v1 G)
abbrev rmJ1_get : Room := { frames := 4, cells := 0, slots := 0, locals := 89 }
def wX9_init (Q : hG → Prop) (v0 : Nat) (v1 : Nat) (v2 : Int32) (v3 : Int32) (G : hG) : Prop :=
  hC G v0 = some (6, true) ∧ hlet (hsR G v0 0 (some v1)) fun G2 => hC G2 v0 = some (6, true) ∧ hlet (hsI G2 v0 1 v2) fun G6 => hC G6 v0 = some (6, true) ∧ hlet (hsI G6 v0 2 v3) fun G10 => Q G10
abbrev rmX9_init : Room := { frames := 1, cells := 0, slots := 0, locals := 12 }
def wJ35_grow_b25 (Q : hG → Prop) (v0 : Nat) (s0 : Int32) (s1 : Int32) (s2 : Int32) (G : hG) : Prop :=
  wJ25_newLength (fun G1 z2 => hcl G1 v0 19 ∧ hlet (hR G1 v0 0) fun y8 => ∃ a9, y8 = some a9 ∧ (wJ33_copyOf_2 (fun G10 z11 => hC G10 v0 = some (19, true) ∧ hlet (hsR G10 v0 0 z11) fun G16 => Q G16) a9 z2 G1)) s0 s1 s2 G
def wJ35_grow (Q : hG → Prop) (v0 : Nat) (v1 : Int32) (G : hG) : Prop :=
  hcl G v0 19 ∧ hlet (hR G v0 0) fun y2 => ∃ a3, y2 = some a3 ∧ (hcl G a3 103 ∧ (((64 : Int32) ≤ (nI (hN G a3)) → (wJ35_grow_b25 Q v0 (nI (hN G a3)) (v1 - (nI (hN G a3))) ((nI (hN G a3)) >>> ((1 : Int32) &&& 31)) G)) ∧ (¬ (64 : Int32) ≤ (nI (hN G a3)) → (wJ35_grow_b25 Q v0 (nI (hN G a3)) (v1 - (nI (hN G a3))) ((nI (hN G a3)) + (2 : Int32)) G))))
abbrev rmJ35_grow : Room := { frames := 3, cells := 1, slots := 64, locals := 92 }
def wX6_compare_2_b51 (Q : hG → Int32 → Prop) (s0 : Int32) (G : hG) : Prop :=
  Q G s0
def wX6_compare_2_b31 (Q : hG → Int32 → Prop) (v1 : Nat) (v2 : Nat) (s0 : Int32) (G : hG) : Prop :=
  (s0 = 0 → (hcl G v1 6 ∧ hlet (hR G v1 0) fun y4 => hcl G v2 6 ∧ hlet (hR G v2 0) fun y6 => ∃ a7, y4 = some a7 ∧ (∃ a8, y6 = some a8 ∧ (hcl G a7 4 ∧ (wX5_compareTo_2 (fun G9 z10 => wX6_compare_2_b51 Q z10 G9) a7 a8 G))))) ∧ (¬ s0 = 0 → (wX6_compare_2_b51 Q s0 G))
def wX6_compare_2 (Q : hG → Int32 → Prop) (v0 : Nat) (v1 : Nat) (v2 : Nat) (G : hG) : Prop :=
  hcl G v1 6 ∧ (hcl G v2 6 ∧ (wJ20_compare (fun G3 z4 => (z4 = 0 → (hcl G3 v2 6 ∧ (hcl G3 v1 6 ∧ (wJ20_compare (fun G12 z13 => wX6_compare_2_b31 Q v1 v2 z13 G12) (hI G3 v2 1) (hI G3 v1 1) G3)))) ∧ (¬ z4 = 0 → (wX6_compare_2_b31 Q v1 v2 z4 G3))) (hI G v1 2) (hI G v2 2) G))
abbrev rmX6_compare_2 : Room := { frames := 2, cells := 0, slots := 0, locals := 44 }
def wX6_compare (Q : hG → Int32 → Prop) (v0 : Nat) (v1 : Option Nat) (v2 : Option Nat) (G : hG) : Prop :=
  (∀ y, v1 = some y → hcl G y 6) ∧ ((∀ y, v2 = some y → hcl G y 6) ∧ (∃ a3, v1 = some a3 ∧ (∃ a4, v2 = some a4 ∧ (hcl G v0 23 ∧ (wX6_compare_2 (fun G5 z6 => Q G5 z6) v0 a3 a4 G)))))
abbrev rmX6_compare : Room := { frames := 3, cells := 0, slots := 0, locals := 67 }
def wJ35_siftUpUsingComparator_b43 (Q : hG → Prop) (v0 : Int32) (v1 : Option Nat) (v2 : Nat) (G : hG) : Prop :=
  hC G v2 = some (103, true) ∧ vp_in v0 (hN G v2) ∧ hTk G 3 v1 ∧ hlet (hsR G v2 (Int32.toNatClampNeg v0) v1) fun G4 => Q G4
def wJ35_siftUpUsingComparator_b0 (Q : hG → Prop) (r0 : Int32 → Option Nat → Nat → Option Nat → hG → Prop) (v0 : Int32) (v1 : Option Nat) (v2 : Nat) (v3 : Option Nat) (G : hG) : Prop :=
  (v0 ≤ 0 → (wJ35_siftUpUsingComparator_b43 Q v0 v1 v2 G)) ∧ (¬ v0 ≤ 0 → (hlet ((((v0 - (1 : Int32))).toUInt32 >>> (((1 : Int32)).toUInt32 &&& Int32.toUInt32 31)).toInt32) fun x2 => hcl G v2 103 ∧ vp_in x2 (hN G v2) ∧ hlet (hR G v2 (Int32.toNatClampNeg x2)) fun y6 => ∃ a8, v3 = some a8 ∧ (hcl G a8 23 ∧ (wX6_compare (fun G9 z10 => (z10 < 0 → (hC G9 v2 = some (103, true) ∧ vp_in v0 (hN G9 v2) ∧ hTk G9 3 y6 ∧ hlet (hsR G9 v2 (Int32.toNatClampNeg v0) y6) fun G19 => r0 x2 v1 v2 (some a8) G19)) ∧ (¬ z10 < 0 → (wJ35_siftUpUsingComparator_b43 Q v0 v1 v2 G9))) a8 v1 y6 G))))
def wJ35_siftUpUsingComparator_l0 (Q : hG → Prop) (n : Nat) : Int32 → Option Nat → Nat → Option Nat → hG → Prop := Nat.rec (motive := fun _ => Int32 → Option Nat → Nat → Option Nat → hG → Prop) (fun _ _ _ _ _ => False) (fun _ ih => wJ35_siftUpUsingComparator_b0 Q ih) n
def wJ35_siftUpUsingComparator (Q : hG → Prop) (v0 : Int32) (v1 : Option Nat) (v2 : Nat) (v3 : Option Nat) (G : hG) : Prop :=
  ∃ n, wJ35_siftUpUsingComparator_l0 Q n v0 v1 v2 v3 G
abbrev rmJ35_siftUpUsingComparator : Room := { frames := 4, cells := 0, slots := 0, locals := 89 }
def wJ35_siftUp (Q : hG → Prop) (v0 : Nat) (v1 : Int32) (v2 : Option Nat) (G : hG) : Prop :=
  hcl G v0 19 ∧ hlet (hR G v0 2) fun y2 => (y2 = none → (False)) ∧ (∀ y3, y2 = some y3 → (hcl G v0 19 ∧ hlet (hR G v0 0) fun y6 => hcl G v0 19 ∧ hlet (hR G v0 2) fun y8 => ∃ a9, y6 = some a9 ∧ (wJ35_siftUpUsingComparator (fun G10 => Q G10) v1 v2 a9 y8 G)))
abbrev rmJ35_siftUp : Room := { frames := 5, cells := 0, slots := 0, locals := 114 }
def wJ35_offer_b43 (Q : hG → Int32 → Prop) (v0 : Nat) (v1 : Nat) (v2 : Int32) (G : hG) : Prop :=
  hcl G v0 19 ∧ (wJ35_siftUp (fun G1 => hC G1 v0 = some (19, true) ∧ hlet (hsI G1 v0 1 (v2 + (1 : Int32))) fun G7 => Q G7 (1 : Int32)) v0 v2 (some v1) G)
def wJ35_offer (Q : hG → Int32 → Prop) (v0 : Nat) (v1 : Option Nat) (G : hG) : Prop :=
  (v1 = none → (False)) ∧ (∀ y1, v1 = some y1 → (hcl G v0 19 ∧ (hC G v0 = some (19, true) ∧ hlet (hsI G v0 3 ((hI G v0 3) + (1 : Int32))) fun G5 => hcl G5 v0 19 ∧ (hcl G5 v0 19 ∧ hlet (hR G5 v0 0) fun y11 => ∃ a12, y11 = some a12 ∧ (hcl G5 a12 103 ∧ (((hI G5 v0 1) < (nI (hN G5 a12)) → (wJ35_offer_b43 Q v0 y1 (hI G5 v0 1) G5)) ∧ (¬ (hI G5 v0 1) < (nI (hN G5 a12)) → (hcl G5 v0 19 ∧ (wJ35_grow (fun G15 => wJ35_offer_b43 Q v0 y1 (hI G5 v0 1) G15) v0 ((hI G5 v0 1) + (1 : Int32)) G5)))))))))
abbrev rmJ35_offer : Room := { frames := 6, cells := 1, slots := 64, locals := 136 }
def wJ35_add (Q : hG → Int32 → Prop) (v0 : Nat) (v1 : Option Nat) (G : hG) : Prop :=
  hcl G v0 19 ∧ (wJ35_offer (fun G1 z2 => hFt .boolean z2 ∧ Q G1 z2) v0 v1 G)
abbrev rmJ35_add : Room := { frames := 7, cells := 1, slots := 64, locals := 158 }
def wX2_suggestions_b121 (Q : hG → Option Nat → Prop) (r28 : Nat → Nat → Nat → Option Nat → hG → Prop) (v0 : Nat) (v1 : Nat) (v2 : Nat) (v3 : Nat) (s0 : Int32) (G : hG) : Prop :=
  r28 v0 v1 v2 (some v3) G
def wX2_suggestions_b120 (Q : hG → Option Nat → Prop) (r28 : Nat → Nat → Nat → Option Nat → hG → Prop) (v0 : Nat) (v1 : Nat) (v2 : Nat) (v3 : Nat) (G : hG) : Prop :=
  wX2_suggestions_b121 Q r28 v0 v1 v2 v3 (0 : Int32) G
def wX2_suggestions_b70 (Q : hG → Option Nat → Prop) (r28 : Nat → Nat → Nat → Option Nat → hG → Prop) (v0 : Nat) (v1 : Nat) (v2 : Nat) (v3 : Nat) (v4 : Nat) (s0 : Int32) (G : hG) : Prop :=
  hcl G v0 2 ∧ hlet (hR G v0 7) fun y3 => ∃ a4, y3 = some a4 ∧ (hcl G a4 100 ∧ vp_in (0 : Int32) (hN G a4) ∧ (((hI G a4 (Int32.toNatClampNeg (0 : Int32))) < s0 → (wX2_suggestions_b120 Q r28 v0 v1 v2 v3 G)) ∧ (¬ (hI G a4 (Int32.toNatClampNeg (0 : Int32))) < s0 → (∀ q8, hfr G q8 → hlet (hnw G q8 6 0) fun G9 => hcl G9 v0 2 ∧ hlet (hR G9 v0 0) fun y14 => ∃ a15, y14 = some a15 ∧ (hcl G9 a15 9 ∧ (wJ1_get (fun G16 z17 => (∀ y, z17 = some y → hcl G16 y 22) ∧ (∃ a23, z17 = some a23 ∧ (hcl G16 a23 22 ∧ (wJ20_intValue (fun G24 z25 => wX9_init (fun G30 => hcl G30 v2 19 ∧ (wJ35_add (fun G34 z35 => (z35 = 0 → (wX2_suggestions_b120 Q r28 v0 v1 v2 v3 G34)) ∧ (¬ z35 = 0 → (wX2_suggestions_b121 Q r28 v0 v1 v2 v3 (1 : Int32) G34))) v2 (some q8) G30)) q8 v4 z25 s0 G24) a23 G16)))) a15 (some v4) G9))))))
def wX2_suggestions_b28 (Q : hG → Option Nat → Prop) (r28 : Nat → Nat → Nat → Option Nat → hG → Prop) (v0 : Nat) (v1 : Nat) (v2 : Nat) (v3 : Option Nat) (G : hG) : Prop :=
  ∃ a1, v3 = some a1 ∧ (hcl G a1 11 ∧ (wJ15_hasNext_c11 (fun G2 z3 => (z3 = 0 → (Q G2 (some v2))) ∧ (¬ z3 = 0 → (hcl G2 a1 11 ∧ (wJ17_next (fun G9 z10 => (∀ y, z10 = some y → hcl G9 y 4) ∧ (∃ a17, z10 = some a17 ∧ (hcl G9 v0 2 ∧ (wX2_isBanned (fun G18 z19 => (z19 = 0 → (hcl G18 v0 2 ∧ (wX2_distance (fun G25 z26 => wX2_suggestions_b70 Q r28 v0 v1 v2 a1 a17 z26 G25) v0 v1 a17 G18))) ∧ (¬ z19 = 0 → (wX2_suggestions_b70 Q r28 v0 v1 v2 a1 a17 (13 : Int32) G18))) v0 v1 a17 G9)))) a1 G2)))) a1 G))
def wX2_suggestions_l28 (Q : hG → Option Nat → Prop) (n : Nat) : Nat → Nat → Nat → Option Nat → hG → Prop := Nat.rec (motive := fun _ => Nat → Nat → Nat → Option Nat → hG → Prop) (fun _ _ _ _ _ => False) (fun _ ih => wX2_suggestions_b28 Q ih) n
def wX2_suggestions (Q : hG → Option Nat → Prop) (v0 : Nat) (v1 : Nat) (G : hG) : Prop :=
  ∀ q1, hfr G q1 → hlet (hnw G q1 19 0) fun G2 => ∀ q6, hfr G2 q6 → hlet (hnw G2 q6 23 0) fun G7 => wX6_init (fun G11 => wJ35_init (fun G15 => hcl G15 v0 2 ∧ hlet (hR G15 v0 0) fun y21 => ∃ a22, y21 = some a22 ∧ (hcl G15 a22 9 ∧ (wJ1_keySet (fun G23 z24 => ∃ a29, z24 = some a29 ∧ (hcl G23 a29 14 ∧ (wJ18_iterator (fun G30 z31 => wX2_suggestions_l28 Q 21 v0 v1 q1 z31 G30) a29 G23))) a22 G15))) q1 (some q6) G11) q6 G7
abbrev rmX2_suggestions : Room := { frames := 13, cells := 93, slots := 3364, locals := 285 }
def wJ35_size (Q : hG → Int32 → Prop) (v0 : Nat) (G : hG) : Prop :=
  hcl G v0 19 ∧ (Q G (hI G v0 1))
abbrev rmJ35_size : Room := { frames := 0, cells := 0, slots := 0, locals := 0 }
def wJ2_isEmpty_c19_b12 (Q : hG → Int32 → Prop) (s0 : Int32) (G : hG) : Prop :=
  hFt .boolean s0 ∧ Q G s0
def wJ2_isEmpty_c19 (Q : hG → Int32 → Prop) (v0 : Nat) (G : hG) : Prop :=
  hcl G v0 19 ∧ (wJ35_size (fun G1 z2 => (z2 = 0 → (wJ2_isEmpty_c19_b12 Q (1 : Int32) G1)) ∧ (¬ z2 = 0 → (wJ2_isEmpty_c19_b12 Q (0 : Int32) G1))) v0 G)
abbrev rmJ2_isEmpty_c19 : Room := { frames := 1, cells := 0, slots := 0, locals := 20 }
def wX2_caseOf_b52 (Q : hG → Int32 → Prop) (s0 : Int32) (G : hG) : Prop :=
  Q G s0
def wX2_caseOf (Q : hG → Int32 → Prop) (v0 : Nat) (v1 : Nat) (G : hG) : Prop :=
  hcl G v0 2 ∧ hlet (hR G v0 0) fun y2 => ∃ a3, y2 = some a3 ∧ (hcl G a3 9 ∧ (wJ1_containsKey (fun G4 z5 => (z5 = 0 → (hcl G4 v0 2 ∧ hlet (hR G4 v0 1) fun y12 => ∃ a13, y12 = some a13 ∧ (hcl G4 a13 17 ∧ (wJ4_contains (fun G14 z15 => (z15 = 0 → (hcl G14 v0 2 ∧ (wX2_learned (fun G21 z22 => (z22 = none → (hcl G21 v0 2 ∧ (wX2_suggestions (fun G29 z30 => ∃ a35, z30 = some a35 ∧ (hcl G29 a35 19 ∧ (wJ2_isEmpty_c19 (fun G36 z37 => (z37 = 0 → (wX2_caseOf_b52 Q (3 : Int32) G36)) ∧ (¬ z37 = 0 → (wX2_caseOf_b52 Q (4 : Int32) G36))) a35 G29))) v0 v1 G21))) ∧ (∀ y27, z22 = some y27 → (Q G21 (2 : Int32)))) v0 v1 G14))) ∧ (¬ z15 = 0 → (Q G14 (1 : Int32)))) a13 (some v1) G4)))) ∧ (¬ z5 = 0 → (Q G4 (0 : Int32)))) a3 (some v1) G))
abbrev rmX2_caseOf : Room := { frames := 14, cells := 93, slots := 3364, locals := 311 }
def wX2_countOf_b24 (Q : hG → Int32 → Prop) (s0 : Int32) (G : hG) : Prop :=
  Q G s0
def wX2_countOf (Q : hG → Int32 → Prop) (v0 : Nat) (v1 : Nat) (G : hG) : Prop :=
  hcl G v0 2 ∧ hlet (hR G v0 0) fun y2 => ∃ a3, y2 = some a3 ∧ (hcl G a3 9 ∧ (wJ1_get (fun G4 z5 => (∀ y, z5 = some y → hcl G4 y 22) ∧ ((z5 = none → (wX2_countOf_b24 Q (0 : Int32) G4)) ∧ (∀ y12, z5 = some y12 → (hcl G4 y12 22 ∧ (wJ20_intValue (fun G14 z15 => wX2_countOf_b24 Q z15 G14) y12 G4))))) a3 (some v1) G))
abbrev rmX2_countOf : Room := { frames := 5, cells := 0, slots := 0, locals := 111 }
def wX10_init (Q : hG → Prop) (v0 : Nat) (v1 : Option Nat) (v2 : Option Nat) (v3 : Int32) (G : hG) : Prop :=
  hC G v0 = some (5, true) ∧ hlet (hsR G v0 0 v1) fun G2 => hC G2 v0 = some (5, true) ∧ hlet (hsR G2 v0 1 v2) fun G6 => hC G6 v0 = some (5, true) ∧ hlet (hsI G6 v0 2 v3) fun G10 => Q G10
abbrev rmX10_init : Room := { frames := 1, cells := 0, slots := 0, locals := 12 }
def wX3_isFull_b19 (Q : hG → Int32 → Prop) (s0 : Int32) (G : hG) : Prop :=
  hFt .boolean s0 ∧ Q G s0
def wX3_isFull (Q : hG → Int32 → Prop) (v0 : Nat) (G : hG) : Prop :=
  hcl G v0 3 ∧ hlet (hR G v0 0) fun y2 => ∃ a3, y2 = some a3 ∧ (hcl G a3 18 ∧ (wJ6_size (fun G4 z5 => hcl G4 v0 3 ∧ ((z5 = (hI G4 v0 1) → (wX3_isFull_b19 Q (1 : Int32) G4)) ∧ (¬ z5 = (hI G4 v0 1) → (wX3_isFull_b19 Q (0 : Int32) G4)))) a3 G))
abbrev rmX3_isFull : Room := { frames := 1, cells := 0, slots := 0, locals := 20 }
def wX3_add_b16 (Q : hG → Prop) (v0 : Nat) (v1 : Option Nat) (G : hG) : Prop :=
  hcl G v0 3 ∧ hlet (hR G v0 0) fun y2 => ∃ a3, y2 = some a3 ∧ (hcl G a3 18 ∧ (wJ6_add (fun G4 z5 => Q G4) a3 v1 G))
def wX3_add (Q : hG → Prop) (v0 : Nat) (v1 : Option Nat) (G : hG) : Prop :=
  hcl G v0 3 ∧ (wX3_isFull (fun G1 z2 => (z2 = 0 → (wX3_add_b16 Q v0 v1 G1)) ∧ (¬ z2 = 0 → (hcl G1 v0 3 ∧ hlet (hR G1 v0 0) fun y9 => ∃ a10, y9 = some a10 ∧ (hcl G1 a10 18 ∧ (wJ6_remove (fun G11 z12 => wX3_add_b16 Q v0 v1 G11) a10 (0 : Int32) G1))))) v0 G)
abbrev rmX3_add : Room := { frames := 7, cells := 1, slots := 64, locals := 179 }
def wX10_with (Q : hG → Option Nat → Prop) (v0 : Nat) (v1 : Int32) (G : hG) : Prop :=
  ∀ q1, hfr G q1 → hlet (hnw G q1 5 0) fun G2 => hcl G2 v0 5 ∧ hlet (hR G2 v0 0) fun y7 => hcl G2 v0 5 ∧ hlet (hR G2 v0 1) fun y9 => wX10_init (fun G10 => Q G10 (some q1)) q1 y7 y9 v1 G2
abbrev rmX10_with : Room := { frames := 2, cells := 1, slots := 3, locals := 35 }
def wJ6_set (Q : hG → Option Nat → Prop) (v0 : Nat) (v1 : Int32) (v2 : Option Nat) (G : hG) : Prop :=
  hcl G v0 18 ∧ (wJ11_checkIndex (fun G2 z3 => hcl G2 v0 18 ∧ (wJ6_elementData (fun G7 z8 => hcl G7 v0 18 ∧ hlet (hR G7 v0 1) fun y15 => ∃ a16, y15 = some a16 ∧ (hC G7 a16 = some (103, true) ∧ vp_in v1 (hN G7 a16) ∧ hTk G7 3 v2 ∧ hlet (hsR G7 a16 (Int32.toNatClampNeg v1) v2) fun G20 => Q G20 z8)) v0 v1 G2)) v1 (hI G v0 2) G)
abbrev rmJ6_set : Room := { frames := 2, cells := 0, slots := 0, locals := 43 }
def wX2_forget_b51 (Q : hG → Prop) (r4 : Nat → Int32 → Int32 → hG → Prop) (v0 : Nat) (v2 : Int32) (s0 : Int32) (G : hG) : Prop :=
  r4 v0 s0 (v2 + (1 : Int32)) G
def wX2_forget_b83 (Q : hG → Prop)  (G : hG) : Prop :=
  Q G
def wX2_forget_b4 (Q : hG → Prop) (r4 : Nat → Int32 → Int32 → hG → Prop) (v0 : Nat) (v1 : Int32) (v2 : Int32) (G : hG) : Prop :=
  hcl G v0 2 ∧ hlet (hR G v0 2) fun y2 => ∃ a3, y2 = some a3 ∧ (hcl G a3 3 ∧ (wX3_size (fun G4 z5 => (z5 ≤ v2 → (hcl G4 v0 2 ∧ hlet (hR G4 v0 2) fun y12 => ∃ a13, y12 = some a13 ∧ (hcl G4 a13 3 ∧ (wX3_isFull (fun G14 z15 => (z15 = 0 → (wX2_forget_b83 Q G14)) ∧ (¬ z15 = 0 → (hcl G14 v0 2 ∧ hlet (hR G14 v0 2) fun y22 => ∃ a23, y22 = some a23 ∧ (hcl G14 a23 3 ∧ hlet (hR G14 a23 0) fun y25 => ∃ a26, y25 = some a26 ∧ (hcl G14 a26 18 ∧ (wJ6_remove (fun G27 z28 => (∀ y, z28 = some y → hcl G27 y 5) ∧ (wX2_forget_b83 Q G27)) a26 v1 G14)))))) a13 G4)))) ∧ (¬ z5 ≤ v2 → (hcl G4 v0 2 ∧ hlet (hR G4 v0 2) fun y36 => ∃ a37, y36 = some a37 ∧ (hcl G4 a37 3 ∧ (wX3_get (fun G38 z39 => (∀ y, z39 = some y → hcl G38 y 5) ∧ (∃ a45, z39 = some a45 ∧ (hcl G38 a45 5 ∧ (hcl G38 v0 2 ∧ hlet (hR G38 v0 2) fun y48 => ∃ a49, y48 = some a49 ∧ (hcl G38 a49 3 ∧ (wX3_get (fun G50 z51 => (∀ y, z51 = some y → hcl G50 y 5) ∧ (∃ a57, z51 = some a57 ∧ (hcl G50 a57 5 ∧ (((hI G50 a57 2) ≤ (hI G38 a45 2) → (wX2_forget_b51 Q r4 v0 v2 v1 G50)) ∧ (¬ (hI G50 a57 2) ≤ (hI G38 a45 2) → (wX2_forget_b51 Q r4 v0 v2 v2 G50)))))) a49 v1 G38)))))) a37 v2 G4))))) a3 G))
def wX2_forget_l4 (Q : hG → Prop) (n : Nat) : Nat → Int32 → Int32 → hG → Prop := Nat.rec (motive := fun _ => Nat → Int32 → Int32 → hG → Prop) (fun _ _ _ _ => False) (fun _ ih => wX2_forget_b4 Q ih) n
def wX2_forget (Q : hG → Prop) (v0 : Nat) (G : hG) : Prop :=
  ∃ n, wX2_forget_l4 Q n v0 (0 : Int32) (1 : Int32) G
abbrev rmX2_forget : Room := { frames := 4, cells := 0, slots := 0, locals := 94 }
def wX2_corrected_b102 (Q : hG → Option Nat → Prop) (v2 : Nat) (G : hG) : Prop :=
  Q G (some v2)
def wX2_corrected (Q : hG → Option Nat → Prop) (v0 : Nat) (v1 : Nat) (v2 : Nat) (G : hG) : Prop :=
  hcl G v0 2 ∧ hlet (hR G v0 5) fun y2 => ∀ q3, hfr G q3 → hlet (hnw G q3 5 0) fun G4 => wX10_init (fun G8 => ∃ a12, y2 = some a12 ∧ (hcl G8 a12 3 ∧ (wX3_add (fun G13 => hcl G13 v0 2 ∧ hlet (hR G13 v0 2) fun y19 => ∃ a20, y19 = some a20 ∧ (wX1_placeOf (fun G21 z22 => (z22 = (-1 : Int32) → (hcl G21 v0 2 ∧ (wX2_forget (fun G61 => hcl G61 v0 2 ∧ hlet (hR G61 v0 2) fun y67 => ∀ q68, hfr G61 q68 → hlet (hnw G61 q68 5 0) fun G69 => wX10_init (fun G73 => ∃ a77, y67 = some a77 ∧ (hcl G73 a77 3 ∧ (wX3_add (fun G78 => wX2_corrected_b102 Q v2 G78) a77 (some q68) G73))) q68 (some v1) (some v2) (1 : Int32) G69) v0 G21))) ∧ (¬ z22 = (-1 : Int32) → (hcl G21 v0 2 ∧ hlet (hR G21 v0 2) fun y29 => ∃ a30, y29 = some a30 ∧ (hcl G21 a30 3 ∧ (wX3_get (fun G31 z32 => (∀ y, z32 = some y → hcl G31 y 5) ∧ (hcl G31 v0 2 ∧ hlet (hR G31 v0 2) fun y40 => ∃ a41, y40 = some a41 ∧ (hcl G31 a41 3 ∧ hlet (hR G31 a41 0) fun y43 => ∃ a44, z32 = some a44 ∧ (hcl G31 a44 5 ∧ (hcl G31 a44 5 ∧ (wX10_with (fun G46 z47 => ∃ a52, y43 = some a52 ∧ (hcl G46 a52 18 ∧ (wJ6_set (fun G53 z54 => (∀ y, z54 = some y → hcl G53 y 5) ∧ (wX2_corrected_b102 Q v2 G53)) a52 z22 z47 G46))) a44 (hMn (99 : Int32) ((hI G31 a44 2) + (1 : Int32))) G31)))))) a30 z22 G21))))) a20 (some v1) (some v2) G13)) a12 (some q3) G8))) q3 (some v1) (some v2) (0 : Int32) G4
abbrev rmX2_corrected : Room := { frames := 8, cells := 4, slots := 134, locals := 201 }
def wJ35_peek (Q : hG → Option Nat → Prop) (v0 : Nat) (G : hG) : Prop :=
  hcl G v0 19 ∧ hlet (hR G v0 0) fun y2 => ∃ a3, y2 = some a3 ∧ (hcl G a3 103 ∧ vp_in (0 : Int32) (hN G a3) ∧ hlet (hR G a3 (Int32.toNatClampNeg (0 : Int32))) fun y6 => Q G y6)
abbrev rmJ35_peek : Room := { frames := 0, cells := 0, slots := 0, locals := 0 }
def wX2_estrange_b150 (Q : hG → Prop)  (G : hG) : Prop :=
  Q G
def wX2_estrange_b102 (Q : hG → Prop) (v0 : Nat) (v1 : Nat) (v2 : Int32) (v3 : Int32) (G : hG) : Prop :=
  hcl G v0 2 ∧ hlet (hR G v0 7) fun y2 => ∃ a3, y2 = some a3 ∧ (hcl G a3 100 ∧ vp_in (2 : Int32) (hN G a3) ∧ ((v3 = (hI G a3 (Int32.toNatClampNeg (2 : Int32))) → (hcl G v0 2 ∧ hlet (hR G v0 1) fun y8 => ∃ a9, y8 = some a9 ∧ (hcl G a9 17 ∧ (wJ4_size (fun G10 z11 => ((10 : Int32) ≤ z11 → (wX2_estrange_b150 Q G10)) ∧ (¬ (10 : Int32) ≤ z11 → (hcl G10 v0 2 ∧ hlet (hR G10 v0 1) fun y18 => ∃ a19, y18 = some a19 ∧ (hcl G10 a19 17 ∧ (wJ4_add (fun G20 z21 => hcl G20 v0 2 ∧ hlet (hR G20 v0 4) fun y28 => ∃ a29, y28 = some a29 ∧ (hcl G20 a29 3 ∧ hlet (hR G20 a29 0) fun y31 => ∃ a32, y31 = some a32 ∧ (hcl G20 a32 18 ∧ (wJ6_remove (fun G33 z34 => (∀ y, z34 = some y → hcl G33 y 5) ∧ (wX2_estrange_b150 Q G33)) a32 v2 G20)))) a19 (some v1) G10))))) a9 G)))) ∧ (¬ v3 = (hI G a3 (Int32.toNatClampNeg (2 : Int32))) → (wX2_estrange_b150 Q G))))
def wX2_estrange_b35 (Q : hG → Prop) (v0 : Nat) (v1 : Nat) (v2 : Int32) (s0 : Int32) (G : hG) : Prop :=
  (v2 = (-1 : Int32) → (hcl G v0 2 ∧ hlet (hR G v0 4) fun y35 => ∀ q36, hfr G q36 → hlet (hnw G q36 5 0) fun G37 => wX10_init (fun G41 => ∃ a45, y35 = some a45 ∧ (hcl G41 a45 3 ∧ (wX3_add (fun G46 => hcl G46 v0 2 ∧ hlet (hR G46 v0 4) fun y52 => ∃ a53, y52 = some a53 ∧ (hcl G46 a53 3 ∧ (wX3_size (fun G54 z55 => wX2_estrange_b102 Q v0 v1 (z55 - (1 : Int32)) s0 G54) a53 G46))) a45 (some q36) G41))) q36 (some v1) (some v1) s0 G37)) ∧ (¬ v2 = (-1 : Int32) → (hcl G v0 2 ∧ hlet (hR G v0 4) fun y4 => ∃ a5, y4 = some a5 ∧ (hcl G a5 3 ∧ hlet (hR G a5 0) fun y7 => hcl G v0 2 ∧ hlet (hR G v0 4) fun y9 => ∃ a10, y9 = some a10 ∧ (hcl G a10 3 ∧ (wX3_get (fun G11 z12 => (∀ y, z12 = some y → hcl G11 y 5) ∧ (∃ a18, z12 = some a18 ∧ (hcl G11 a18 5 ∧ (wX10_with (fun G19 z20 => ∃ a25, y7 = some a25 ∧ (hcl G19 a25 18 ∧ (wJ6_set (fun G26 z27 => (∀ y, z27 = some y → hcl G26 y 5) ∧ (wX2_estrange_b102 Q v0 v1 v2 s0 G26)) a25 v2 z20 G19))) a18 s0 G11)))) a10 v2 G)))))
def wX2_estrange (Q : hG → Prop) (v0 : Nat) (v1 : Nat) (G : hG) : Prop :=
  hcl G v0 2 ∧ hlet (hR G v0 4) fun y2 => ∃ a3, y2 = some a3 ∧ (wX1_placeOf (fun G4 z5 => (z5 = (-1 : Int32) → (wX2_estrange_b35 Q v0 v1 z5 (1 : Int32) G4)) ∧ (¬ z5 = (-1 : Int32) → (hcl G4 v0 2 ∧ hlet (hR G4 v0 4) fun y12 => ∃ a13, y12 = some a13 ∧ (hcl G4 a13 3 ∧ (wX3_get (fun G14 z15 => (∀ y, z15 = some y → hcl G14 y 5) ∧ (∃ a21, z15 = some a21 ∧ (hcl G14 a21 5 ∧ (wX2_estrange_b35 Q v0 v1 z5 ((hI G14 a21 2) + (1 : Int32)) G14)))) a13 z5 G4))))) a3 (some v1) (some v1) G)
abbrev rmX2_estrange : Room := { frames := 8, cells := 3, slots := 73, locals := 201 }
def wX2_correct (Q : hG → Option Nat → Prop) (v0 : Nat) (v1 : Nat) (G : hG) : Prop :=
  hcl G v0 2 ∧ (wX2_caseOf (fun G1 z2 => (z2 = (0 : Int32) → (hcl G1 v0 2 ∧ hlet (hR G1 v0 0) fun y9 => hcl G1 v0 2 ∧ (wX2_countOf (fun G10 z11 => wJ20_valueOf (fun G16 z17 => ∃ a21, y9 = some a21 ∧ (hcl G16 a21 9 ∧ (wJ1_put (fun G22 z23 => (∀ y, z23 = some y → hcl G22 y 22) ∧ (Q G22 (some v1))) a21 (some v1) z17 G16))) (hMn (999 : Int32) (z11 + (1 : Int32))) G10) v0 v1 G1))) ∧ (z2 = (1 : Int32) → (Q G1 (some v1))) ∧ (z2 = (2 : Int32) → (hcl G1 v0 2 ∧ (wX2_learned (fun G32 z33 => ∃ a38, z33 = some a38 ∧ (hcl G32 a38 5 ∧ hlet (hR G32 a38 1) fun y40 => (∀ y, y40 = some y → hcl G32 y 4) ∧ (∃ a42, y40 = some a42 ∧ (hcl G32 v0 2 ∧ (wX2_corrected (fun G43 z44 => Q G43 z44) v0 v1 a42 G32))))) v0 v1 G1))) ∧ (z2 = (3 : Int32) → (hcl G1 v0 2 ∧ (wX2_suggestions (fun G50 z51 => ∃ a56, z51 = some a56 ∧ (hcl G50 a56 19 ∧ (wJ35_peek (fun G57 z58 => (∀ y, z58 = some y → hcl G57 y 6) ∧ (∃ a64, z58 = some a64 ∧ (hcl G57 a64 6 ∧ hlet (hR G57 a64 0) fun y66 => ∃ a67, y66 = some a67 ∧ (hcl G57 v0 2 ∧ (wX2_corrected (fun G68 z69 => Q G68 z69) v0 v1 a67 G57))))) a56 G50))) v0 v1 G1))) ∧ (z2 = (4 : Int32) → (hcl G1 v0 2 ∧ (wX2_estrange (fun G75 => Q G75 (some v1)) v0 v1 G1))) ∧ (¬ z2 = (0 : Int32) ∧ ¬ z2 = (1 : Int32) ∧ ¬ z2 = (2 : Int32) ∧ ¬ z2 = (3 : Int32) ∧ ¬ z2 = (4 : Int32) → (Q G1 (some v1)))) v0 v1 G)
abbrev rmX2_correct : Room := { frames := 15, cells := 190, slots := 6862, locals := 332 }
def wX1_becomeWith (Q : hG → Int64 → Prop) (v0 : Nat) (v1 : Nat) (v2 : Nat) (G : hG) : Prop :=
  hcl G v0 1 ∧ (wX1_become (fun G1 z2 => hcl G1 v2 4 ∧ (Q G1 (hJ G1 v2 0))) v0 v1 (0 : Int32) G)
abbrev rmX1_becomeWith : Room := { frames := 8, cells := 1, slots := 64, locals := 202 }
def wX1_correct (Q : hG → Int64 → Prop) (X : Bool → hG → Prop) (v0 : Nat) (v1 : Int64) (G : hG) : Prop :=
  ∀ q1, hfr G q1 → hlet (hnw G q1 4 0) fun G2 => wX5_init (fun G6 => hcl G6 v0 1 ∧ hlet (hR G6 v0 0) fun y12 => ∃ a13, y12 = some a13 ∧ (hcl G6 a13 2 ∧ (wX2_copy (fun G14 z15 => ∃ a21, z15 = some a21 ∧ (hcl G14 a21 2 ∧ (wX2_correct (fun G22 z23 => ∃ a28, z23 = some a28 ∧ (hcl G22 v0 1 ∧ (wX1_becomeWith (fun G29 z30 => Q G29 z30) v0 a21 a28 G22))) a21 q1 G14))) a13 G6))) X q1 v1 G2
abbrev rmX1_correct : Room := { frames := 16, cells := 345, slots := 8323, locals := 373 }
def wX0_correct (Q : hG → Int32 → Prop) (v0 : Nat) (v1 : Int64) (v3 : Nat) (G : hG) : Prop :=
  hcl G v0 1 ∧ (wX1_correct (fun G1 z2 => hC G1 v3 = some (101, true) ∧ vp_in (0 : Int32) (hN G1 v3) ∧ hlet (hsJ G1 v3 (Int32.toNatClampNeg (0 : Int32)) z2) fun G12 => Q G12 (0 : Int32)) (fun k G5 => hXc k (∀ q4 : Nat, Q G5 (1 : Int32)) False) v0 v1 G)
abbrev rmX0_correct : Room := { frames := 17, cells := 345, slots := 8323, locals := 397 }
def wX2_takeBack_b192 (Q : hG → Option Nat → Prop) (X : Bool → hG → Prop) (v0 : Nat) (v2 : Nat) (G : hG) : Prop :=
  hcl G v2 5 ∧ hlet (hR G v2 0) fun y2 => (∀ y, y2 = some y → hcl G y 4) ∧ (∃ a4, y2 = some a4 ∧ (hcl G v0 2 ∧ (wX2_estrange (fun G5 => hcl G5 v2 5 ∧ hlet (hR G5 v2 0) fun y11 => (∀ y, y11 = some y → hcl G5 y 4) ∧ (Q G5 y11)) v0 a4 G)))
def wX2_takeBack_b146 (Q : hG → Option Nat → Prop) (X : Bool → hG → Prop) (v0 : Nat) (v2 : Nat) (G : hG) : Prop :=
  hcl G v0 2 ∧ hlet (hR G v0 2) fun y2 => hcl G v2 5 ∧ hlet (hR G v2 0) fun y4 => (∀ y, y4 = some y → hcl G y 4) ∧ (hcl G v2 5 ∧ hlet (hR G v2 1) fun y7 => (∀ y, y7 = some y → hcl G y 4) ∧ (∃ a9, y2 = some a9 ∧ (wX1_placeOf (fun G10 z11 => (z11 = (-1 : Int32) → (wX2_takeBack_b192 Q X v0 v2 G10)) ∧ (¬ z11 = (-1 : Int32) → (hcl G10 v0 2 ∧ hlet (hR G10 v0 2) fun y18 => ∃ a19, y18 = some a19 ∧ (hcl G10 a19 3 ∧ hlet (hR G10 a19 0) fun y21 => ∃ a22, y21 = some a22 ∧ (hcl G10 a22 18 ∧ (wJ6_remove (fun G23 z24 => (∀ y, z24 = some y → hcl G23 y 5) ∧ (wX2_takeBack_b192 Q X v0 v2 G23)) a22 z11 G10)))))) a9 y4 y7 G)))
def wX2_takeBack_b103 (Q : hG → Option Nat → Prop) (X : Bool → hG → Prop) (v0 : Nat) (v1 : Int32) (v2 : Nat) (v3 : Int32) (s0 : Int32) (G : hG) : Prop :=
  wX1_requireState (fun G1 => hcl G1 v0 2 ∧ hlet (hR G1 v0 5) fun y6 => ∃ a7, y6 = some a7 ∧ (hcl G1 a7 3 ∧ hlet (hR G1 a7 0) fun y9 => hcl G1 v2 5 ∧ (wX10_with (fun G10 z11 => ∃ a16, y9 = some a16 ∧ (hcl G10 a16 18 ∧ (wJ6_set (fun G17 z18 => (∀ y, z18 = some y → hcl G17 y 5) ∧ ((v3 = 0 → (hcl G17 v0 2 ∧ hlet (hR G17 v0 3) fun y27 => hcl G17 v2 5 ∧ (wX10_with (fun G28 z29 => ∃ a34, y27 = some a34 ∧ (hcl G28 a34 3 ∧ (wX3_add (fun G35 => wX2_takeBack_b146 Q X v0 v2 G35) a34 z29 G28))) v2 (0 : Int32) G17))) ∧ (¬ v3 = 0 → (wX2_takeBack_b146 Q X v0 v2 G17)))) a16 v1 z11 G10))) v2 (1 : Int32) G1))) X s0 (hK G 127) G
def wX2_takeBack_b98 (Q : hG → Option Nat → Prop) (X : Bool → hG → Prop) (v0 : Nat) (v1 : Int32) (v2 : Nat) (v3 : Int32) (G : hG) : Prop :=
  wX2_takeBack_b103 Q X v0 v1 v2 v3 (1 : Int32) G
def wX2_takeBack_b47 (Q : hG → Option Nat → Prop) (X : Bool → hG → Prop) (v0 : Nat) (v1 : Int32) (s0 : Int32) (G : hG) : Prop :=
  wX1_requireState (fun G1 => hcl G1 v0 2 ∧ hlet (hR G1 v0 5) fun y6 => ∃ a7, y6 = some a7 ∧ (hcl G1 a7 3 ∧ (wX3_get (fun G8 z9 => (∀ y, z9 = some y → hcl G8 y 5) ∧ (∃ a16, z9 = some a16 ∧ (hcl G8 a16 5 ∧ hlet (hR G8 a16 0) fun y18 => (∀ y, y18 = some y → hcl G8 y 4) ∧ (hcl G8 a16 5 ∧ hlet (hR G8 a16 1) fun y21 => (∀ y, y21 = some y → hcl G8 y 4) ∧ (∃ a23, y18 = some a23 ∧ (∃ a24, y21 = some a24 ∧ (hcl G8 v0 2 ∧ (wX2_isBanned (fun G25 z26 => (z26 = 0 → (hcl G25 v0 2 ∧ hlet (hR G25 v0 3) fun y34 => ∃ a35, y34 = some a35 ∧ (hcl G25 a35 3 ∧ (wX3_isFull (fun G36 z37 => (z37 = 0 → (wX2_takeBack_b98 Q X v0 v1 a16 z26 G36)) ∧ (¬ z37 = 0 → (wX2_takeBack_b103 Q X v0 v1 a16 z26 (0 : Int32) G36))) a35 G25)))) ∧ (¬ z26 = 0 → (wX2_takeBack_b98 Q X v0 v1 a16 z26 G25))) v0 a23 a24 G8)))))))) a7 v1 G1))) X s0 (hK G 126) G
def wX2_takeBack_b38 (Q : hG → Option Nat → Prop) (X : Bool → hG → Prop) (v0 : Nat) (v1 : Int32) (G : hG) : Prop :=
  (v1 < 0 → (wX2_takeBack_b47 Q X v0 v1 (0 : Int32) G)) ∧ (¬ v1 < 0 → (wX2_takeBack_b47 Q X v0 v1 (1 : Int32) G))
def wX2_takeBack_b10 (Q : hG → Option Nat → Prop) (X : Bool → hG → Prop) (r10 : Nat → Int32 → hG → Prop) (v0 : Nat) (v1 : Int32) (G : hG) : Prop :=
  (v1 < 0 → (wX2_takeBack_b38 Q X v0 v1 G)) ∧ (¬ v1 < 0 → (hcl G v0 2 ∧ hlet (hR G v0 5) fun y3 => ∃ a4, y3 = some a4 ∧ (hcl G a4 3 ∧ (wX3_get (fun G5 z6 => (∀ y, z6 = some y → hcl G5 y 5) ∧ (∃ a12, z6 = some a12 ∧ (hcl G5 a12 5 ∧ (((hI G5 a12 2) = (1 : Int32) → (r10 v0 (v1 + (-1 : Int32)) G5)) ∧ (¬ (hI G5 a12 2) = (1 : Int32) → (wX2_takeBack_b38 Q X v0 v1 G5)))))) a4 v1 G))))
def wX2_takeBack_l10 (Q : hG → Option Nat → Prop) (X : Bool → hG → Prop) (n : Nat) : Nat → Int32 → hG → Prop := Nat.rec (motive := fun _ => Nat → Int32 → hG → Prop) (fun _ _ _ => False) (fun _ ih => wX2_takeBack_b10 Q X ih) n
def wX2_takeBack (Q : hG → Option Nat → Prop) (X : Bool → hG → Prop) (v0 : Nat) (G : hG) : Prop :=
  hcl G v0 2 ∧ hlet (hR G v0 5) fun y2 => ∃ a3, y2 = some a3 ∧ (hcl G a3 3 ∧ (wX3_size (fun G4 z5 => ∃ n, wX2_takeBack_l10 Q X n v0 (z5 - (1 : Int32)) G4) a3 G))
abbrev rmX2_takeBack : Room := { frames := 9, cells := 8, slots := 155, locals := 226 }
def wX1_takeBack (Q : hG → Int64 → Prop) (X : Bool → hG → Prop) (v0 : Nat) (G : hG) : Prop :=
  hcl G v0 1 ∧ hlet (hR G v0 0) fun y2 => ∃ a3, y2 = some a3 ∧ (hcl G a3 2 ∧ (wX2_copy (fun G4 z5 => ∃ a11, z5 = some a11 ∧ (hcl G4 a11 2 ∧ (wX2_takeBack (fun G12 z13 => ∃ a18, z13 = some a18 ∧ (hcl G12 v0 1 ∧ (wX1_becomeWith (fun G19 z20 => Q G19 z20) v0 a11 a18 G12))) X a11 G4))) a3 G))
abbrev rmX1_takeBack : Room := { frames := 14, cells := 161, slots := 1608, locals := 373 }
def wX0_takeBack (Q : hG → Int32 → Prop) (v0 : Nat) (v1 : Nat) (G : hG) : Prop :=
  hcl G v0 1 ∧ (wX1_takeBack (fun G1 z2 => hC G1 v1 = some (101, true) ∧ vp_in (0 : Int32) (hN G1 v1) ∧ hlet (hsJ G1 v1 (Int32.toNatClampNeg (0 : Int32)) z2) fun G12 => Q G12 (0 : Int32)) (fun k G5 => hXc k False (∀ q4 : Nat, Q G5 (1 : Int32))) v0 G)
abbrev rmX0_takeBack : Room := { frames := 15, cells := 161, slots := 1608, locals := 394 }
def wX2_allow_b41 (Q : hG → Int32 → Prop) (s0 : Int32) (G : hG) : Prop :=
  Q G s0
def wX2_allow_b31 (Q : hG → Int32 → Prop) (v3 : Int32) (G : hG) : Prop :=
  (v3 = (-1 : Int32) → (wX2_allow_b41 Q (0 : Int32) G)) ∧ (¬ v3 = (-1 : Int32) → (wX2_allow_b41 Q (1 : Int32) G))
def wX2_allow (Q : hG → Int32 → Prop) (v0 : Nat) (v1 : Nat) (v2 : Nat) (G : hG) : Prop :=
  hcl G v0 2 ∧ hlet (hR G v0 3) fun y2 => ∃ a3, y2 = some a3 ∧ (wX1_placeOf (fun G4 z5 => (z5 = (-1 : Int32) → (wX2_allow_b31 Q z5 G4)) ∧ (¬ z5 = (-1 : Int32) → (hcl G4 v0 2 ∧ hlet (hR G4 v0 3) fun y12 => ∃ a13, y12 = some a13 ∧ (hcl G4 a13 3 ∧ hlet (hR G4 a13 0) fun y15 => ∃ a16, y15 = some a16 ∧ (hcl G4 a16 18 ∧ (wJ6_remove (fun G17 z18 => (∀ y, z18 = some y → hcl G17 y 5) ∧ (wX2_allow_b31 Q z5 G17)) a16 z5 G4)))))) a3 (some v1) (some v2) G)
abbrev rmX2_allow : Room := { frames := 5, cells := 0, slots := 0, locals := 110 }
def wX1_allow (Q : hG → Int32 → Prop) (X : Bool → hG → Prop) (v0 : Nat) (v1 : Int64) (v3 : Int64) (G : hG) : Prop :=
  ∀ q1, hfr G q1 → hlet (hnw G q1 4 0) fun G2 => wX5_init (fun G6 => ∀ q11, hfr G6 q11 → hlet (hnw G6 q11 4 0) fun G12 => wX5_init (fun G16 => hcl G16 v0 1 ∧ hlet (hR G16 v0 0) fun y22 => ∃ a23, y22 = some a23 ∧ (hcl G16 a23 2 ∧ (wX2_copy (fun G24 z25 => ∃ a31, z25 = some a31 ∧ (hcl G24 a31 2 ∧ (wX2_allow (fun G32 z33 => hcl G32 v0 1 ∧ (wX1_become (fun G38 z39 => Q G38 z39) v0 a31 z33 G32)) a31 q1 q11 G24))) a23 G16))) X q11 v3 G12) X q1 v1 G2
abbrev rmX1_allow : Room := { frames := 14, cells := 157, slots := 1469, locals := 373 }
def wX0_allow (Q : hG → Int32 → Prop) (v0 : Nat) (v1 : Int64) (v3 : Int64) (v5 : Nat) (G : hG) : Prop :=
  hcl G v0 1 ∧ (wX1_allow (fun G1 z2 => hC G1 v5 = some (101, true) ∧ vp_in (0 : Int32) (hN G1 v5) ∧ hlet (hsJ G1 v5 (Int32.toNatClampNeg (0 : Int32)) ((z2).toInt64)) fun G12 => Q G12 (0 : Int32)) (fun k G5 => hXc k (∀ q4 : Nat, Q G5 (1 : Int32)) False) v0 v1 v3 G)
abbrev rmX0_allow : Room := { frames := 15, cells := 157, slots := 1469, locals := 400 }
def wX1_requireWhat (Q : hG → Prop) (X : Bool → hG → Prop) (v0 : Int32) (v1 : Int32) (G : hG) : Prop :=
  wX1_inRange (fun G1 z2 => wX1_requireArgument (fun G6 => Q G6) X z2 (hK G1 113) G1) ((v0).toInt64) (0 : Int64) (((v1 - (1 : Int32))).toInt64) G
abbrev rmX1_requireWhat : Room := { frames := 7, cells := 1, slots := 6, locals := 111 }
def wX2_placeInOrder_b15 (Q : hG → Int32 → Prop) (r15 : Nat → Int32 → Option Nat → hG → Prop) (v1 : Nat) (v2 : Int32) (v3 : Option Nat) (G : hG) : Prop :=
  ∃ a1, v3 = some a1 ∧ (hcl G a1 11 ∧ (wJ15_hasNext_c11 (fun G2 z3 => (z3 = 0 → (Q G2 (-1 : Int32))) ∧ (¬ z3 = 0 → (hcl G2 a1 11 ∧ (wJ17_next (fun G9 z10 => (∀ y, z10 = some y → hcl G9 y 4) ∧ (∃ a17, z10 = some a17 ∧ (hcl G9 a17 4 ∧ (wX5_equals (fun G18 z19 => (z19 = 0 → (r15 v1 (v2 + (1 : Int32)) (some a1) G18)) ∧ (¬ z19 = 0 → (Q G18 v2))) a17 (some v1) G9)))) a1 G2)))) a1 G))
def wX2_placeInOrder_l15 (Q : hG → Int32 → Prop) (n : Nat) : Nat → Int32 → Option Nat → hG → Prop := Nat.rec (motive := fun _ => Nat → Int32 → Option Nat → hG → Prop) (fun _ _ _ _ => False) (fun _ ih => wX2_placeInOrder_b15 Q ih) n
def wX2_placeInOrder (Q : hG → Int32 → Prop) (v0 : Nat) (v1 : Nat) (G : hG) : Prop :=
  hcl G v0 2 ∧ hlet (hR G v0 0) fun y3 => ∃ a4, y3 = some a4 ∧ (hcl G a4 9 ∧ (wJ1_keySet (fun G5 z6 => ∃ a11, z6 = some a11 ∧ (hcl G5 a11 14 ∧ (wJ18_iterator (fun G12 z13 => ∃ n, wX2_placeInOrder_l15 Q n v1 (0 : Int32) z13 G12) a11 G5))) a4 G))
abbrev rmX2_placeInOrder : Room := { frames := 6, cells := 2, slots := 5, locals := 114 }
def wX2_countTyped_b39 (Q : hG → Int32 → Prop) (r4 : Nat → Nat → Int32 → Int32 → hG → Prop) (v0 : Nat) (v1 : Nat) (v3 : Int32) (s0 : Int32) (s1 : Int32) (G : hG) : Prop :=
  r4 v0 v1 (s0 + s1) (v3 + (1 : Int32)) G
def wX2_countTyped_b4 (Q : hG → Int32 → Prop) (r4 : Nat → Nat → Int32 → Int32 → hG → Prop) (v0 : Nat) (v1 : Nat) (v2 : Int32) (v3 : Int32) (G : hG) : Prop :=
  hcl G v0 3 ∧ (wX3_size (fun G1 z2 => (z2 ≤ v3 → (Q G1 v2)) ∧ (¬ z2 ≤ v3 → (hcl G1 v0 3 ∧ (wX3_get (fun G8 z9 => (∀ y, z9 = some y → hcl G8 y 5) ∧ (∃ a15, z9 = some a15 ∧ (hcl G8 a15 5 ∧ hlet (hR G8 a15 0) fun y17 => (∀ y, y17 = some y → hcl G8 y 4) ∧ (∃ a19, y17 = some a19 ∧ (hcl G8 a19 4 ∧ (wX5_equals (fun G20 z21 => (z21 = 0 → (wX2_countTyped_b39 Q r4 v0 v1 v3 v2 (0 : Int32) G20)) ∧ (¬ z21 = 0 → (wX2_countTyped_b39 Q r4 v0 v1 v3 v2 (1 : Int32) G20))) a19 (some v1) G8)))))) v0 v3 G1)))) v0 G)
def wX2_countTyped_l4 (Q : hG → Int32 → Prop) (n : Nat) : Nat → Nat → Int32 → Int32 → hG → Prop := Nat.rec (motive := fun _ => Nat → Nat → Int32 → Int32 → hG → Prop) (fun _ _ _ _ _ => False) (fun _ ih => wX2_countTyped_b4 Q ih) n
def wX2_countTyped (Q : hG → Int32 → Prop) (v0 : Nat) (v1 : Nat) (G : hG) : Prop :=
  ∃ n, wX2_countTyped_l4 Q n v0 v1 (0 : Int32) (0 : Int32) G
abbrev rmX2_countTyped : Room := { frames := 4, cells := 0, slots := 0, locals := 85 }
def wX2_wordValue_b135 (Q : hG → Int32 → Prop) (s0 : Int32) (G : hG) : Prop :=
  Q G s0
def wX2_wordValue (Q : hG → Int32 → Prop) (v0 : Nat) (v1 : Nat) (v2 : Int32) (G : hG) : Prop :=
  hcl G v0 2 ∧ hlet (hR G v0 4) fun y2 => ∃ a3, y2 = some a3 ∧ (wX1_placeOf (fun G4 z5 => (v2 = (0 : Int32) → (hcl G4 v0 2 ∧ (wX2_countOf (fun G11 z12 => wX2_wordValue_b135 Q z12 G11) v0 v1 G4))) ∧ (v2 = (1 : Int32) → (hcl G4 v0 2 ∧ hlet (hR G4 v0 1) fun y19 => ∃ a20, y19 = some a20 ∧ (hcl G4 a20 17 ∧ (wJ4_contains (fun G21 z22 => (z22 = 0 → (wX2_wordValue_b135 Q (0 : Int32) G21)) ∧ (¬ z22 = 0 → (wX2_wordValue_b135 Q (1 : Int32) G21))) a20 (some v1) G4)))) ∧ (v2 = (2 : Int32) → ((z5 = (-1 : Int32) → (wX2_wordValue_b135 Q (0 : Int32) G4)) ∧ (¬ z5 = (-1 : Int32) → (hcl G4 v0 2 ∧ hlet (hR G4 v0 4) fun y31 => ∃ a32, y31 = some a32 ∧ (hcl G4 a32 3 ∧ (wX3_get (fun G33 z34 => (∀ y, z34 = some y → hcl G33 y 5) ∧ (∃ a40, z34 = some a40 ∧ (hcl G33 a40 5 ∧ (wX2_wordValue_b135 Q (hI G33 a40 2) G33)))) a32 z5 G4)))))) ∧ (v2 = (3 : Int32) → (hcl G4 v1 4 ∧ (wX5_length (fun G43 z44 => wX2_wordValue_b135 Q z44 G43) v1 G4))) ∧ (v2 = (4 : Int32) → (hcl G4 v0 2 ∧ (wX2_placeInOrder (fun G50 z51 => wX2_wordValue_b135 Q z51 G50) v0 v1 G4))) ∧ (v2 = (5 : Int32) → (hcl G4 v0 2 ∧ hlet (hR G4 v0 2) fun y58 => ∃ a59, y58 = some a59 ∧ (wX2_countTyped (fun G60 z61 => wX2_wordValue_b135 Q z61 G60) a59 v1 G4))) ∧ (¬ v2 = (0 : Int32) ∧ ¬ v2 = (1 : Int32) ∧ ¬ v2 = (2 : Int32) ∧ ¬ v2 = (3 : Int32) ∧ ¬ v2 = (4 : Int32) ∧ ¬ v2 = (5 : Int32) → (hcl G4 v0 2 ∧ hlet (hR G4 v0 3) fun y66 => ∃ a67, y66 = some a67 ∧ (wX2_countTyped (fun G68 z69 => wX2_wordValue_b135 Q z69 G68) a67 v1 G4)))) a3 (some v1) (some v1) G)
abbrev rmX2_wordValue : Room := { frames := 7, cells := 2, slots := 5, locals := 138 }
def wX1_word (Q : hG → Int32 → Prop) (X : Bool → hG → Prop) (v0 : Nat) (v1 : Int64) (v3 : Int32) (G : hG) : Prop :=
  ∀ q1, hfr G q1 → hlet (hnw G q1 4 0) fun G2 => wX5_init (fun G6 => wX1_requireWhat (fun G11 => hcl G11 v0 1 ∧ hlet (hR G11 v0 0) fun y16 => ∃ a17, y16 = some a17 ∧ (hcl G11 a17 2 ∧ (wX2_wordValue (fun G18 z19 => Q G18 z19) a17 q1 v3 G11))) X v3 (7 : Int32) G6) X q1 v1 G2
abbrev rmX1_word : Room := { frames := 8, cells := 5, slots := 19, locals := 161 }
def wX0_word (Q : hG → Int32 → Prop) (v0 : Nat) (v1 : Int64) (v3 : Int32) (v4 : Nat) (G : hG) : Prop :=
  hcl G v0 1 ∧ (wX1_word (fun G1 z2 => hC G1 v4 = some (101, true) ∧ vp_in (0 : Int32) (hN G1 v4) ∧ hlet (hsJ G1 v4 (Int32.toNatClampNeg (0 : Int32)) ((z2).toInt64)) fun G12 => Q G12 (0 : Int32)) (fun k G5 => hXc k (∀ q4 : Nat, Q G5 (1 : Int32)) False) v0 v1 v3 G)
abbrev rmX0_word : Room := { frames := 9, cells := 5, slots := 19, locals := 185 }
def wX2_listed_KS_b10 (Q : hG → Int64 → Prop) (r10 : Int32 → Option Nat → hG → Prop) (v3 : Int32) (v4 : Option Nat) (G : hG) : Prop :=
  ∃ a1, v4 = some a1 ∧ (hcl G a1 11 ∧ (wJ15_hasNext_c11 (fun G2 z3 => (z3 = 0 → (Q G2 (-1 : Int64))) ∧ (¬ z3 = 0 → (hcl G2 a1 11 ∧ (wJ17_next (fun G9 z10 => (∀ y, z10 = some y → hcl G9 y 4) ∧ ((v3 = 0 → (∃ a19, z10 = some a19 ∧ (hcl G9 a19 4 ∧ (Q G9 (hJ G9 a19 0))))) ∧ (¬ v3 = 0 → (r10 (v3 + (-1 : Int32)) (some a1) G9)))) a1 G2)))) a1 G))
def wX2_listed_KS_l10 (Q : hG → Int64 → Prop) (n : Nat) : Int32 → Option Nat → hG → Prop := Nat.rec (motive := fun _ => Int32 → Option Nat → hG → Prop) (fun _ _ _ => False) (fun _ ih => wX2_listed_KS_b10 Q ih) n
def wX2_listed_KS (Q : hG → Int64 → Prop) (v0 : Nat) (v1 : Option Nat) (v2 : Int32) (G : hG) : Prop :=
  ∃ a2, v1 = some a2 ∧ (hcl G a2 14 ∧ (wJ18_iterator (fun G3 z4 => ∃ n, wX2_listed_KS_l10 Q n v2 z4 G3) a2 G))
abbrev rmX2_listed_KS : Room := { frames := 5, cells := 1, slots := 4, locals := 96 }
def wX2_listed_TS_b10 (Q : hG → Int64 → Prop) (r10 : Int32 → Option Nat → hG → Prop) (v3 : Int32) (v4 : Option Nat) (G : hG) : Prop :=
  ∃ a1, v4 = some a1 ∧ (hcl G a1 11 ∧ (wJ15_hasNext_c11 (fun G2 z3 => (z3 = 0 → (Q G2 (-1 : Int64))) ∧ (¬ z3 = 0 → (hcl G2 a1 11 ∧ (wJ17_next (fun G9 z10 => (∀ y, z10 = some y → hcl G9 y 4) ∧ ((v3 = 0 → (∃ a19, z10 = some a19 ∧ (hcl G9 a19 4 ∧ (Q G9 (hJ G9 a19 0))))) ∧ (¬ v3 = 0 → (r10 (v3 + (-1 : Int32)) (some a1) G9)))) a1 G2)))) a1 G))
def wX2_listed_TS_l10 (Q : hG → Int64 → Prop) (n : Nat) : Int32 → Option Nat → hG → Prop := Nat.rec (motive := fun _ => Int32 → Option Nat → hG → Prop) (fun _ _ _ => False) (fun _ ih => wX2_listed_TS_b10 Q ih) n
def wX2_listed_TS (Q : hG → Int64 → Prop) (v0 : Nat) (v1 : Option Nat) (v2 : Int32) (G : hG) : Prop :=
  ∃ a2, v1 = some a2 ∧ (hcl G a2 17 ∧ (wJ4_iterator (fun G3 z4 => ∃ n, wX2_listed_TS_l10 Q n v2 z4 G3) a2 G))
abbrev rmX2_listed_TS : Room := { frames := 6, cells := 2, slots := 5, locals := 116 }
def wX1_listed_b9 (Q : hG → Int64 → Prop) (X : Bool → hG → Prop) (v0 : Nat) (v1 : Int32) (v2 : Int32) (s0 : Int32) (G : hG) : Prop :=
  wX1_requireArgument (fun G1 => hcl G1 v0 1 ∧ hlet (hR G1 v0 0) fun y6 => (v1 = 0 → (hcl G1 v0 1 ∧ hlet (hR G1 v0 0) fun y9 => ∃ a10, y9 = some a10 ∧ (hcl G1 a10 2 ∧ hlet (hR G1 a10 0) fun y12 => ∃ a13, y12 = some a13 ∧ (hcl G1 a13 9 ∧ (wJ1_keySet (fun G14 z15 => ∃ a20, y6 = some a20 ∧ (hcl G14 a20 2 ∧ (wX2_listed_KS (fun G21 z22 => Q G21 z22) a20 z15 v2 G14))) a13 G1))))) ∧ (¬ v1 = 0 → (hcl G1 v0 1 ∧ hlet (hR G1 v0 0) fun y28 => ∃ a29, y28 = some a29 ∧ (hcl G1 a29 2 ∧ hlet (hR G1 a29 1) fun y31 => ∃ a32, y6 = some a32 ∧ (hcl G1 a32 2 ∧ (wX2_listed_TS (fun G33 z34 => Q G33 z34) a32 y31 v2 G1)))))) X s0 (hK G 114) G
def wX1_listed (Q : hG → Int64 → Prop) (X : Bool → hG → Prop) (v0 : Nat) (v1 : Int32) (v2 : Int32) (G : hG) : Prop :=
  (v2 < 0 → (wX1_listed_b9 Q X v0 v1 v2 (0 : Int32) G)) ∧ (¬ v2 < 0 → (wX1_listed_b9 Q X v0 v1 v2 (1 : Int32) G))
abbrev rmX1_listed : Room := { frames := 7, cells := 3, slots := 11, locals := 141 }
def wX0_listed (Q : hG → Int32 → Prop) (v0 : Nat) (v1 : Int32) (v2 : Int32) (v3 : Nat) (G : hG) : Prop :=
  hcl G v0 1 ∧ (wX1_listed (fun G1 z2 => hC G1 v3 = some (101, true) ∧ vp_in (0 : Int32) (hN G1 v3) ∧ hlet (hsJ G1 v3 (Int32.toNatClampNeg (0 : Int32)) z2) fun G12 => Q G12 (0 : Int32)) (fun k G5 => hXc k (∀ q4 : Nat, Q G5 (1 : Int32)) False) v0 v1 v2 G)
abbrev rmX0_listed : Room := { frames := 8, cells := 3, slots := 11, locals := 163 }
def wX1_requireEntry_b21 (Q : hG → Prop) (X : Bool → hG → Prop) (s0 : Int32) (G : hG) : Prop :=
  wX1_requireArgument (fun G1 => Q G1) X s0 (hK G 115) G
def wX1_requireEntry_b20 (Q : hG → Prop) (X : Bool → hG → Prop)  (G : hG) : Prop :=
  wX1_requireEntry_b21 Q X (0 : Int32) G
def wX1_requireEntry (Q : hG → Prop) (X : Bool → hG → Prop) (v0 : Int32) (v1 : Int32) (G : hG) : Prop :=
  (v0 < 0 → (wX1_requireEntry_b20 Q X G)) ∧ (¬ v0 < 0 → (wX1_inRange (fun G2 z3 => (z3 = 0 → (wX1_requireEntry_b20 Q X G2)) ∧ (¬ z3 = 0 → (wX1_requireEntry_b21 Q X (1 : Int32) G2))) ((v1).toInt64) (0 : Int64) (2 : Int64) G))
abbrev rmX1_requireEntry : Room := { frames := 7, cells := 1, slots := 6, locals := 111 }
def wX2_meantValue_b40 (Q : hG → Int64 → Prop) (s0 : Int64) (G : hG) : Prop :=
  Q G s0
def wX2_meantValue (Q : hG → Int64 → Prop) (v0 : Nat) (v1 : Int32) (G : hG) : Prop :=
  (v1 = 0 → (hcl G v0 5 ∧ hlet (hR G v0 0) fun y10 => (∀ y, y10 = some y → hcl G y 4) ∧ (∃ a12, y10 = some a12 ∧ (hcl G a12 4 ∧ (wX2_meantValue_b40 Q (hJ G a12 0) G))))) ∧ (¬ v1 = 0 → ((v1 = (1 : Int32) → (hcl G v0 5 ∧ hlet (hR G v0 1) fun y5 => (∀ y, y5 = some y → hcl G y 4) ∧ (∃ a7, y5 = some a7 ∧ (hcl G a7 4 ∧ (wX2_meantValue_b40 Q (hJ G a7 0) G))))) ∧ (¬ v1 = (1 : Int32) → (hcl G v0 5 ∧ (wX2_meantValue_b40 Q (((hI G v0 2)).toInt64) G)))))
abbrev rmX2_meantValue : Room := { frames := 0, cells := 0, slots := 0, locals := 0 }
def wX2_pairValue_b32 (Q : hG → Int64 → Prop) (s0 : Int64) (G : hG) : Prop :=
  Q G s0
def wX2_pairValue (Q : hG → Int64 → Prop) (v0 : Nat) (v1 : Int32) (v2 : Int32) (G : hG) : Prop :=
  hcl G v0 2 ∧ hlet (hR G v0 2) fun y2 => ∃ a3, y2 = some a3 ∧ (hcl G a3 3 ∧ (wX3_size (fun G4 z5 => (z5 ≤ v1 → (wX2_pairValue_b32 Q (-1 : Int64) G4)) ∧ (¬ z5 ≤ v1 → (hcl G4 v0 2 ∧ hlet (hR G4 v0 2) fun y12 => ∃ a13, y12 = some a13 ∧ (hcl G4 a13 3 ∧ (wX3_get (fun G14 z15 => (∀ y, z15 = some y → hcl G14 y 5) ∧ (∃ a21, z15 = some a21 ∧ (wX2_meantValue (fun G22 z23 => wX2_pairValue_b32 Q z23 G22) a21 v2 G14))) a13 v1 G4))))) a3 G))
abbrev rmX2_pairValue : Room := { frames := 4, cells := 0, slots := 0, locals := 85 }
def wX1_pair (Q : hG → Int64 → Prop) (X : Bool → hG → Prop) (v0 : Nat) (v1 : Int32) (v2 : Int32) (G : hG) : Prop :=
  wX1_requireEntry (fun G1 => hcl G1 v0 1 ∧ hlet (hR G1 v0 0) fun y6 => ∃ a7, y6 = some a7 ∧ (hcl G1 a7 2 ∧ (wX2_pairValue (fun G8 z9 => Q G8 z9) a7 v1 v2 G1))) X v1 v2 G
abbrev rmX1_pair : Room := { frames := 8, cells := 1, slots := 6, locals := 132 }
def wX0_pair (Q : hG → Int32 → Prop) (v0 : Nat) (v1 : Int32) (v2 : Int32) (v3 : Nat) (G : hG) : Prop :=
  hcl G v0 1 ∧ (wX1_pair (fun G1 z2 => hC G1 v3 = some (101, true) ∧ vp_in (0 : Int32) (hN G1 v3) ∧ hlet (hsJ G1 v3 (Int32.toNatClampNeg (0 : Int32)) z2) fun G12 => Q G12 (0 : Int32)) (fun k G5 => hXc k (∀ q4 : Nat, Q G5 (1 : Int32)) False) v0 v1 v2 G)
abbrev rmX0_pair : Room := { frames := 9, cells := 1, slots := 6, locals := 154 }
def wX2_logValue_b42 (Q : hG → Int64 → Prop) (s0 : Int64) (G : hG) : Prop :=
  Q G s0
def wX2_logValue (Q : hG → Int64 → Prop) (v0 : Nat) (v1 : Int32) (v2 : Int32) (G : hG) : Prop :=
  hcl G v0 2 ∧ hlet (hR G v0 5) fun y2 => ∃ a3, y2 = some a3 ∧ (hcl G a3 3 ∧ (wX3_size (fun G4 z5 => (z5 ≤ v1 → (wX2_logValue_b42 Q (-1 : Int64) G4)) ∧ (¬ z5 ≤ v1 → (hcl G4 v0 2 ∧ hlet (hR G4 v0 5) fun y12 => hcl G4 v0 2 ∧ hlet (hR G4 v0 5) fun y14 => ∃ a15, y14 = some a15 ∧ (hcl G4 a15 3 ∧ (wX3_size (fun G16 z17 => ∃ a22, y12 = some a22 ∧ (hcl G16 a22 3 ∧ (wX3_get (fun G23 z24 => (∀ y, z24 = some y → hcl G23 y 5) ∧ (∃ a30, z24 = some a30 ∧ (wX2_meantValue (fun G31 z32 => wX2_logValue_b42 Q z32 G31) a30 v2 G23))) a22 ((z17 - (1 : Int32)) - v1) G16))) a15 G4))))) a3 G))
abbrev rmX2_logValue : Room := { frames := 4, cells := 0, slots := 0, locals := 85 }
def wX1_logged (Q : hG → Int64 → Prop) (X : Bool → hG → Prop) (v0 : Nat) (v1 : Int32) (v2 : Int32) (G : hG) : Prop :=
  wX1_requireEntry (fun G1 => hcl G1 v0 1 ∧ hlet (hR G1 v0 0) fun y6 => ∃ a7, y6 = some a7 ∧ (hcl G1 a7 2 ∧ (wX2_logValue (fun G8 z9 => Q G8 z9) a7 v1 v2 G1))) X v1 v2 G
abbrev rmX1_logged : Room := { frames := 8, cells := 1, slots := 6, locals := 132 }
def wX0_logged (Q : hG → Int32 → Prop) (v0 : Nat) (v1 : Int32) (v2 : Int32) (v3 : Nat) (G : hG) : Prop :=
  hcl G v0 1 ∧ (wX1_logged (fun G1 z2 => hC G1 v3 = some (101, true) ∧ vp_in (0 : Int32) (hN G1 v3) ∧ hlet (hsJ G1 v3 (Int32.toNatClampNeg (0 : Int32)) z2) fun G12 => Q G12 (0 : Int32)) (fun k G5 => hXc k (∀ q4 : Nat, Q G5 (1 : Int32)) False) v0 v1 v2 G)
abbrev rmX0_logged : Room := { frames := 9, cells := 1, slots := 6, locals := 154 }
def wX8_besides_b25 (Q : hG → Int32 → Prop) (r5 : Int32 → Int32 → Int32 → hG → Prop) (v0 : Int32) (v2 : Int32) (s0 : Int32) (s1 : Int32) (G : hG) : Prop :=
  r5 v0 (s0 + s1) ((((v2 + (1 : Int32))).toUInt32 % 65536).toInt32) G
def wX8_besides_b5 (Q : hG → Int32 → Prop) (r5 : Int32 → Int32 → Int32 → hG → Prop) (v0 : Int32) (v1 : Int32) (v2 : Int32) (G : hG) : Prop :=
  ((122 : Int32) < v2 → (Q G v1)) ∧ (¬ (122 : Int32) < v2 → (wX8_areBeside_L1 (fun G2 z3 => (z3 = 0 → (wX8_besides_b25 Q r5 v0 v2 v1 (0 : Int32) G2)) ∧ (¬ z3 = 0 → (wX8_besides_b25 Q r5 v0 v2 v1 (1 : Int32) G2))) v0 v2 G))
def wX8_besides_l5 (Q : hG → Int32 → Prop) (n : Nat) : Int32 → Int32 → Int32 → hG → Prop := Nat.rec (motive := fun _ => Int32 → Int32 → Int32 → hG → Prop) (fun _ _ _ _ => False) (fun _ ih => wX8_besides_b5 Q ih) n
def wX8_besides (Q : hG → Int32 → Prop) (v0 : Int32) (G : hG) : Prop :=
  ∃ n, wX8_besides_l5 Q n v0 (0 : Int32) (97 : Int32) G
abbrev rmX8_besides : Room := { frames := 9, cells := 0, slots := 0, locals := 194 }
def wX2_keyValue_b69 (Q : hG → Int32 → Prop) (s0 : Int32) (G : hG) : Prop :=
  Q G s0
def wX2_keyValue (Q : hG → Int32 → Prop) (v0 : Nat) (v1 : Int32) (v2 : Int32) (G : hG) : Prop :=
  (v2 = (0 : Int32) → (wX8_rowOf (fun G2 z3 => wX2_keyValue_b69 Q z3 G2) v1 G)) ∧ (v2 = (1 : Int32) → (wX8_columnOf (fun G8 z9 => wX2_keyValue_b69 Q z9 G8) v1 G)) ∧ (v2 = (2 : Int32) → (wX8_handOf (fun G14 z15 => wX2_keyValue_b69 Q z15 G14) v1 G)) ∧ (v2 = (3 : Int32) → (hcl G v0 2 ∧ hlet (hR G v0 6) fun y21 => ∃ a22, y21 = some a22 ∧ (hcl G a22 100 ∧ vp_in (v1 - (97 : Int32)) (hN G a22) ∧ (wX2_keyValue_b69 Q (hI G a22 (Int32.toNatClampNeg (v1 - (97 : Int32)))) G)))) ∧ (¬ v2 = (0 : Int32) ∧ ¬ v2 = (1 : Int32) ∧ ¬ v2 = (2 : Int32) ∧ ¬ v2 = (3 : Int32) → (wX8_besides (fun G25 z26 => wX2_keyValue_b69 Q z26 G25) v1 G))
abbrev rmX2_keyValue : Room := { frames := 10, cells := 0, slots := 0, locals := 216 }
def wX1_key_b29 (Q : hG → Int32 → Prop) (X : Bool → hG → Prop) (v0 : Nat) (v1 : Int32) (v2 : Int32) (s0 : Int32) (G : hG) : Prop :=
  wX1_requireArgument (fun G1 => hcl G1 v0 1 ∧ hlet (hR G1 v0 0) fun y6 => ∃ a7, y6 = some a7 ∧ (hcl G1 a7 2 ∧ (wX2_keyValue (fun G8 z9 => Q G8 z9) a7 (((((97 : Int32) + v1)).toUInt32 % 65536).toInt32) v2 G1))) X s0 (hK G 116) G
def wX1_key_b28 (Q : hG → Int32 → Prop) (X : Bool → hG → Prop) (v0 : Nat) (v1 : Int32) (v2 : Int32) (G : hG) : Prop :=
  wX1_key_b29 Q X v0 v1 v2 (0 : Int32) G
def wX1_key (Q : hG → Int32 → Prop) (X : Bool → hG → Prop) (v0 : Nat) (v1 : Int32) (v2 : Int32) (G : hG) : Prop :=
  wX1_inRange (fun G1 z2 => (z2 = 0 → (wX1_key_b28 Q X v0 v1 v2 G1)) ∧ (¬ z2 = 0 → (wX1_inRange (fun G7 z8 => (z8 = 0 → (wX1_key_b28 Q X v0 v1 v2 G7)) ∧ (¬ z8 = 0 → (wX1_key_b29 Q X v0 v1 v2 (1 : Int32) G7))) ((v2).toInt64) (0 : Int64) (4 : Int64) G1))) ((v1).toInt64) (0 : Int64) (25 : Int64) G
abbrev rmX1_key : Room := { frames := 11, cells := 1, slots := 6, locals := 238 }
def wX0_key (Q : hG → Int32 → Prop) (v0 : Nat) (v1 : Int32) (v2 : Int32) (v3 : Nat) (G : hG) : Prop :=
  hcl G v0 1 ∧ (wX1_key (fun G1 z2 => hC G1 v3 = some (101, true) ∧ vp_in (0 : Int32) (hN G1 v3) ∧ hlet (hsJ G1 v3 (Int32.toNatClampNeg (0 : Int32)) ((z2).toInt64)) fun G12 => Q G12 (0 : Int32)) (fun k G5 => hXc k (∀ q4 : Nat, Q G5 (1 : Int32)) False) v0 v1 v2 G)
abbrev rmX0_key : Room := { frames := 12, cells := 1, slots := 6, locals := 260 }
def wX2_undone_b4 (Q : hG → Int32 → Prop) (r4 : Nat → Int32 → Int32 → hG → Prop) (v0 : Nat) (v1 : Int32) (v2 : Int32) (G : hG) : Prop :=
  hcl G v0 2 ∧ hlet (hR G v0 5) fun y2 => ∃ a3, y2 = some a3 ∧ (hcl G a3 3 ∧ (wX3_size (fun G4 z5 => (z5 ≤ v2 → (Q G4 v1)) ∧ (¬ z5 ≤ v2 → (hcl G4 v0 2 ∧ hlet (hR G4 v0 5) fun y12 => ∃ a13, y12 = some a13 ∧ (hcl G4 a13 3 ∧ (wX3_get (fun G14 z15 => (∀ y, z15 = some y → hcl G14 y 5) ∧ (∃ a21, z15 = some a21 ∧ (hcl G14 a21 5 ∧ (r4 v0 (v1 + (hI G14 a21 2)) (v2 + (1 : Int32)) G14)))) a13 v2 G4))))) a3 G))
def wX2_undone_l4 (Q : hG → Int32 → Prop) (n : Nat) : Nat → Int32 → Int32 → hG → Prop := Nat.rec (motive := fun _ => Nat → Int32 → Int32 → hG → Prop) (fun _ _ _ _ => False) (fun _ ih => wX2_undone_b4 Q ih) n
def wX2_undone (Q : hG → Int32 → Prop) (v0 : Nat) (G : hG) : Prop :=
  ∃ n, wX2_undone_l4 Q n v0 (0 : Int32) (0 : Int32) G
abbrev rmX2_undone : Room := { frames := 4, cells := 0, slots := 0, locals := 85 }
def wJ2_init_c15 (Q : hG → Prop) (v0 : Nat) (G : hG) : Prop :=
  Q G
abbrev rmJ2_init_c15 : Room := { frames := 1, cells := 0, slots := 0, locals := 12 }
def wJ37_init (Q : hG → Prop) (v0 : Nat) (v1 : Nat) (G : hG) : Prop :=
  hC G v0 = some (15, true) ∧ hlet (hsR G v0 0 (some v1)) fun G2 => wJ2_init_c15 (fun G5 => Q G5) v0 G2
abbrev rmJ37_init : Room := { frames := 2, cells := 0, slots := 0, locals := 32 }
def wJ1_values_b23 (Q : hG → Option Nat → Prop) (v1 : Nat) (G : hG) : Prop :=
  Q G (some v1)
def wJ1_values (Q : hG → Option Nat → Prop) (v0 : Nat) (G : hG) : Prop :=
  hcl G v0 9 ∧ hlet (hR G v0 1) fun y2 => (y2 = none → (∀ q6, hfr G q6 → hlet (hnw G q6 15 0) fun G7 => wJ37_init (fun G11 => hC G11 v0 = some (9, true) ∧ hlet (hsR G11 v0 1 (some q6)) fun G17 => wJ1_values_b23 Q q6 G17) q6 v0 G7)) ∧ (∀ y4, y2 = some y4 → (wJ1_values_b23 Q y4 G))
abbrev rmJ1_values : Room := { frames := 3, cells := 1, slots := 1, locals := 53 }
def wJ15_init_c12 (Q : hG → Prop) (v0 : Nat) (v1 : Nat) (v2 : Option Nat) (G : hG) : Prop :=
  hC G v0 = some (12, true) ∧ hlet (hsR G v0 3 (some v1)) fun G2 => hcl G2 v1 9 ∧ (hC G2 v0 = some (12, true) ∧ hlet (hsI G2 v0 2 (hI G2 v1 5)) fun G7 => hC G7 v0 = some (12, true) ∧ hlet (hsR G7 v0 1 none) fun G11 => hC G11 v0 = some (12, true) ∧ hlet (hsR G11 v0 0 v2) fun G15 => Q G15)
abbrev rmJ15_init_c12 : Room := { frames := 1, cells := 0, slots := 0, locals := 12 }
def wJ32_init (Q : hG → Prop) (v0 : Nat) (v1 : Nat) (v2 : Option Nat) (G : hG) : Prop :=
  wJ15_init_c12 (fun G1 => Q G1) v0 v1 v2 G
abbrev rmJ32_init : Room := { frames := 2, cells := 0, slots := 0, locals := 34 }
def wJ37_iterator (Q : hG → Option Nat → Prop) (v0 : Nat) (G : hG) : Prop :=
  ∀ q1, hfr G q1 → hlet (hnw G q1 12 0) fun G2 => hcl G2 v0 15 ∧ hlet (hR G2 v0 0) fun y7 => hcl G2 v0 15 ∧ hlet (hR G2 v0 0) fun y9 => ∃ a10, y9 = some a10 ∧ (hcl G2 a10 9 ∧ (wJ1_getFirstEntry (fun G11 z12 => ∃ a17, y7 = some a17 ∧ (wJ32_init (fun G18 => Q G18 (some q1)) q1 a17 z12 G11)) a10 G2))
abbrev rmJ37_iterator : Room := { frames := 3, cells := 1, slots := 4, locals := 56 }
def wJ15_hasNext_c12_b12 (Q : hG → Int32 → Prop) (s0 : Int32) (G : hG) : Prop :=
  hFt .boolean s0 ∧ Q G s0
def wJ15_hasNext_c12 (Q : hG → Int32 → Prop) (v0 : Nat) (G : hG) : Prop :=
  hcl G v0 12 ∧ hlet (hR G v0 0) fun y2 => (y2 = none → (wJ15_hasNext_c12_b12 Q (0 : Int32) G)) ∧ (∀ y3, y2 = some y3 → (wJ15_hasNext_c12_b12 Q (1 : Int32) G))
abbrev rmJ15_hasNext_c12 : Room := { frames := 0, cells := 0, slots := 0, locals := 0 }
def wJ15_nextEntry_c12 (Q : hG → Option Nat → Prop) (v0 : Nat) (G : hG) : Prop :=
  hcl G v0 12 ∧ hlet (hR G v0 0) fun y2 => (y2 = none → (False)) ∧ (∀ y4, y2 = some y4 → (hcl G v0 12 ∧ hlet (hR G v0 3) fun y7 => ∃ a8, y7 = some a8 ∧ (hcl G a8 9 ∧ (hcl G v0 12 ∧ (((hI G a8 5) = (hI G v0 2) → (wJ1_successor (fun G12 z13 => hC G12 v0 = some (12, true) ∧ hlet (hsR G12 v0 0 z13) fun G18 => hC G18 v0 = some (12, true) ∧ hlet (hsR G18 v0 1 (some y4)) fun G22 => Q G22 (some y4)) (some y4) G)) ∧ (¬ (hI G a8 5) = (hI G v0 2) → (False)))))))
abbrev rmJ15_nextEntry_c12 : Room := { frames := 1, cells := 0, slots := 0, locals := 22 }
def wJ32_next (Q : hG → Option Nat → Prop) (v0 : Nat) (G : hG) : Prop :=
  hcl G v0 12 ∧ (wJ15_nextEntry_c12 (fun G1 z2 => ∃ a7, z2 = some a7 ∧ (hcl G1 a7 10 ∧ hlet (hR G1 a7 1) fun y9 => Q G1 y9)) v0 G)
abbrev rmJ32_next : Room := { frames := 2, cells := 0, slots := 0, locals := 43 }
def wX2_counts_b15 (Q : hG → Int32 → Prop) (r15 : Int32 → Option Nat → hG → Prop) (v1 : Int32) (v2 : Option Nat) (G : hG) : Prop :=
  ∃ a1, v2 = some a1 ∧ (hcl G a1 12 ∧ (wJ15_hasNext_c12 (fun G2 z3 => (z3 = 0 → (Q G2 v1)) ∧ (¬ z3 = 0 → (hcl G2 a1 12 ∧ (wJ32_next (fun G9 z10 => (∀ y, z10 = some y → hcl G9 y 22) ∧ (∃ a16, z10 = some a16 ∧ (hcl G9 a16 22 ∧ (wJ20_intValue (fun G17 z18 => r15 (v1 + z18) (some a1) G17) a16 G9)))) a1 G2)))) a1 G))
def wX2_counts_l15 (Q : hG → Int32 → Prop) (n : Nat) : Int32 → Option Nat → hG → Prop := Nat.rec (motive := fun _ => Int32 → Option Nat → hG → Prop) (fun _ _ _ => False) (fun _ ih => wX2_counts_b15 Q ih) n
def wX2_counts (Q : hG → Int32 → Prop) (v0 : Nat) (G : hG) : Prop :=
  hcl G v0 2 ∧ hlet (hR G v0 0) fun y3 => ∃ a4, y3 = some a4 ∧ (hcl G a4 9 ∧ (wJ1_values (fun G5 z6 => ∃ a11, z6 = some a11 ∧ (hcl G5 a11 15 ∧ (wJ37_iterator (fun G12 z13 => ∃ n, wX2_counts_l15 Q n (0 : Int32) z13 G12) a11 G5))) a4 G))
abbrev rmX2_counts : Room := { frames := 4, cells := 2, slots := 5, locals := 76 }
def wX2_value_b143 (Q : hG → Int32 → Prop) (s0 : Int32) (G : hG) : Prop :=
  Q G s0
def wX2_value (Q : hG → Int32 → Prop) (v0 : Nat) (v1 : Int32) (G : hG) : Prop :=
  (v1 = (0 : Int32) → (hcl G v0 2 ∧ hlet (hR G v0 0) fun y3 => ∃ a4, y3 = some a4 ∧ (hcl G a4 9 ∧ (wJ1_size (fun G5 z6 => wX2_value_b143 Q z6 G5) a4 G)))) ∧ (v1 = (1 : Int32) → (hcl G v0 2 ∧ hlet (hR G v0 1) fun y13 => ∃ a14, y13 = some a14 ∧ (hcl G a14 17 ∧ (wJ4_size (fun G15 z16 => wX2_value_b143 Q z16 G15) a14 G)))) ∧ (v1 = (2 : Int32) → (hcl G v0 2 ∧ hlet (hR G v0 2) fun y23 => ∃ a24, y23 = some a24 ∧ (hcl G a24 3 ∧ (wX3_size (fun G25 z26 => wX2_value_b143 Q z26 G25) a24 G)))) ∧ (v1 = (3 : Int32) → (hcl G v0 2 ∧ hlet (hR G v0 3) fun y33 => ∃ a34, y33 = some a34 ∧ (hcl G a34 3 ∧ (wX3_size (fun G35 z36 => wX2_value_b143 Q z36 G35) a34 G)))) ∧ (v1 = (4 : Int32) → (hcl G v0 2 ∧ hlet (hR G v0 4) fun y43 => ∃ a44, y43 = some a44 ∧ (hcl G a44 3 ∧ (wX3_size (fun G45 z46 => wX2_value_b143 Q z46 G45) a44 G)))) ∧ (v1 = (5 : Int32) → (hcl G v0 2 ∧ hlet (hR G v0 5) fun y53 => ∃ a54, y53 = some a54 ∧ (hcl G a54 3 ∧ (wX3_size (fun G55 z56 => wX2_value_b143 Q z56 G55) a54 G)))) ∧ (v1 = (6 : Int32) → (hcl G v0 2 ∧ (wX2_undone (fun G62 z63 => wX2_value_b143 Q z63 G62) v0 G))) ∧ (v1 = (7 : Int32) → (hcl G v0 2 ∧ hlet (hR G v0 7) fun y70 => ∃ a71, y70 = some a71 ∧ (hcl G a71 100 ∧ vp_in (v1 - (7 : Int32)) (hN G a71) ∧ (wX2_value_b143 Q (hI G a71 (Int32.toNatClampNeg (v1 - (7 : Int32)))) G)))) ∧ (v1 = (8 : Int32) → (hcl G v0 2 ∧ hlet (hR G v0 7) fun y76 => ∃ a77, y76 = some a77 ∧ (hcl G a77 100 ∧ vp_in (v1 - (7 : Int32)) (hN G a77) ∧ (wX2_value_b143 Q (hI G a77 (Int32.toNatClampNeg (v1 - (7 : Int32)))) G)))) ∧ (v1 = (9 : Int32) → (hcl G v0 2 ∧ hlet (hR G v0 7) fun y82 => ∃ a83, y82 = some a83 ∧ (hcl G a83 100 ∧ vp_in (v1 - (7 : Int32)) (hN G a83) ∧ (wX2_value_b143 Q (hI G a83 (Int32.toNatClampNeg (v1 - (7 : Int32)))) G)))) ∧ (v1 = (10 : Int32) → (hcl G v0 2 ∧ (wX2_counts (fun G87 z88 => wX2_value_b143 Q z88 G87) v0 G))) ∧ (¬ v1 = (0 : Int32) ∧ ¬ v1 = (1 : Int32) ∧ ¬ v1 = (2 : Int32) ∧ ¬ v1 = (3 : Int32) ∧ ¬ v1 = (4 : Int32) ∧ ¬ v1 = (5 : Int32) ∧ ¬ v1 = (6 : Int32) ∧ ¬ v1 = (7 : Int32) ∧ ¬ v1 = (8 : Int32) ∧ ¬ v1 = (9 : Int32) ∧ ¬ v1 = (10 : Int32) → (hcl G v0 2 ∧ hlet (hR G v0 7) fun y94 => ∃ a95, y94 = some a95 ∧ (hcl G a95 100 ∧ vp_in (v1 - (7 : Int32)) (hN G a95) ∧ (wX2_value_b143 Q (hI G a95 (Int32.toNatClampNeg (v1 - (7 : Int32)))) G))))
abbrev rmX2_value : Room := { frames := 5, cells := 2, slots := 5, locals := 107 }
def wX1_wholeOf_b21 (Q : hG → Int32 → Prop) (s0 : Int32) (G : hG) : Prop :=
  Q G s0
def wX1_wholeOf (Q : hG → Int32 → Prop) (v0 : Nat) (v1 : Int32) (G : hG) : Prop :=
  (v1 = (11 : Int32) → (hcl G v0 1 ∧ (wX1_wholeOf_b21 Q (hI G v0 3) G))) ∧ (¬ v1 = (11 : Int32) → (hcl G v0 1 ∧ hlet (hR G v0 0) fun y3 => ∃ a4, y3 = some a4 ∧ (hcl G a4 2 ∧ (wX2_value (fun G5 z6 => wX1_wholeOf_b21 Q z6 G5) a4 v1 G))))
abbrev rmX1_wholeOf : Room := { frames := 6, cells := 2, slots := 5, locals := 128 }
def wX1_whole (Q : hG → Int32 → Prop) (X : Bool → hG → Prop) (v0 : Nat) (v1 : Int32) (G : hG) : Prop :=
  wX1_requireWhat (fun G1 => hcl G1 v0 1 ∧ (wX1_wholeOf (fun G5 z6 => Q G5 z6) v0 v1 G1)) X v1 (12 : Int32) G
abbrev rmX1_whole : Room := { frames := 8, cells := 3, slots := 11, locals := 149 }
def wX0_whole (Q : hG → Int32 → Prop) (v0 : Nat) (v1 : Int32) (v2 : Nat) (G : hG) : Prop :=
  hcl G v0 1 ∧ (wX1_whole (fun G1 z2 => hC G1 v2 = some (101, true) ∧ vp_in (0 : Int32) (hN G1 v2) ∧ hlet (hsJ G1 v2 (Int32.toNatClampNeg (0 : Int32)) ((z2).toInt64)) fun G12 => Q G12 (0 : Int32)) (fun k G5 => hXc k (∀ q4 : Nat, Q G5 (1 : Int32)) False) v0 v1 G)
abbrev rmX0_whole : Room := { frames := 9, cells := 3, slots := 11, locals := 170 }
def wX1_distance (Q : hG → Int32 → Prop) (X : Bool → hG → Prop) (v0 : Nat) (v1 : Int64) (v3 : Int64) (G : hG) : Prop :=
  hcl G v0 1 ∧ hlet (hR G v0 0) fun y2 => ∀ q3, hfr G q3 → hlet (hnw G q3 4 0) fun G4 => wX5_init (fun G8 => ∀ q12, hfr G8 q12 → hlet (hnw G8 q12 4 0) fun G13 => wX5_init (fun G17 => ∃ a21, y2 = some a21 ∧ (hcl G17 a21 2 ∧ (wX2_distance (fun G22 z23 => Q G22 z23) a21 q3 q12 G17))) X q12 v3 G13) X q3 v1 G4
abbrev rmX1_distance : Room := { frames := 13, cells := 6, slots := 101, locals := 285 }
def wX0_distance (Q : hG → Int32 → Prop) (v0 : Nat) (v1 : Int64) (v3 : Int64) (v5 : Nat) (G : hG) : Prop :=
  hcl G v0 1 ∧ (wX1_distance (fun G1 z2 => hC G1 v5 = some (101, true) ∧ vp_in (0 : Int32) (hN G1 v5) ∧ hlet (hsJ G1 v5 (Int32.toNatClampNeg (0 : Int32)) ((z2).toInt64)) fun G12 => Q G12 (0 : Int32)) (fun k G5 => hXc k (∀ q4 : Nat, Q G5 (1 : Int32)) False) v0 v1 v3 G)
abbrev rmX0_distance : Room := { frames := 14, cells := 6, slots := 101, locals := 309 }
def wX1_caseOf (Q : hG → Int32 → Prop) (X : Bool → hG → Prop) (v0 : Nat) (v1 : Int64) (G : hG) : Prop :=
  hcl G v0 1 ∧ hlet (hR G v0 0) fun y2 => ∀ q3, hfr G q3 → hlet (hnw G q3 4 0) fun G4 => wX5_init (fun G8 => ∃ a12, y2 = some a12 ∧ (hcl G8 a12 2 ∧ (wX2_caseOf (fun G13 z14 => Q G13 z14) a12 q3 G8))) X q3 v1 G4
abbrev rmX1_caseOf : Room := { frames := 15, cells := 95, slots := 3372, locals := 332 }
def wX0_caseOf (Q : hG → Int32 → Prop) (v0 : Nat) (v1 : Int64) (v3 : Nat) (G : hG) : Prop :=
  hcl G v0 1 ∧ (wX1_caseOf (fun G1 z2 => hC G1 v3 = some (101, true) ∧ vp_in (0 : Int32) (hN G1 v3) ∧ hlet (hsJ G1 v3 (Int32.toNatClampNeg (0 : Int32)) ((z2).toInt64)) fun G12 => Q G12 (0 : Int32)) (fun k G5 => hXc k (∀ q4 : Nat, Q G5 (1 : Int32)) False) v0 v1 G)
abbrev rmX0_caseOf : Room := { frames := 16, cells := 95, slots := 3372, locals := 354 }
def wJ35_siftDownUsingComparator_b88 (Q : hG → Prop) (v0 : Int32) (v1 : Option Nat) (v2 : Nat) (G : hG) : Prop :=
  hC G v2 = some (103, true) ∧ vp_in v0 (hN G v2) ∧ hTk G 3 v1 ∧ hlet (hsR G v2 (Int32.toNatClampNeg v0) v1) fun G4 => Q G4
def wJ35_siftDownUsingComparator_b61 (Q : hG → Prop) (r5 : Int32 → Option Nat → Nat → Int32 → Option Nat → Int32 → hG → Prop) (v0 : Int32) (v1 : Option Nat) (v2 : Nat) (v3 : Int32) (v4 : Option Nat) (v5 : Int32) (v6 : Int32) (v7 : Option Nat) (G : hG) : Prop :=
  ∃ a1, v4 = some a1 ∧ (hcl G a1 23 ∧ (wX6_compare (fun G2 z3 => (0 < z3 → (hC G2 v2 = some (103, true) ∧ vp_in v0 (hN G2 v2) ∧ hTk G2 3 v7 ∧ hlet (hsR G2 v2 (Int32.toNatClampNeg v0) v7) fun G12 => r5 v6 v1 v2 v3 (some a1) v5 G12)) ∧ (¬ 0 < z3 → (wJ35_siftDownUsingComparator_b88 Q v0 v1 v2 G2))) a1 v1 v7 G))
def wJ35_siftDownUsingComparator_b5 (Q : hG → Prop) (r5 : Int32 → Option Nat → Nat → Int32 → Option Nat → Int32 → hG → Prop) (v0 : Int32) (v1 : Option Nat) (v2 : Nat) (v3 : Int32) (v4 : Option Nat) (v5 : Int32) (G : hG) : Prop :=
  (v5 ≤ v0 → (wJ35_siftDownUsingComparator_b88 Q v0 v1 v2 G)) ∧ (¬ v5 ≤ v0 → (hcl G v2 103 ∧ vp_in ((v0 <<< ((1 : Int32) &&& 31)) + (1 : Int32)) (hN G v2) ∧ hlet (hR G v2 (Int32.toNatClampNeg ((v0 <<< ((1 : Int32) &&& 31)) + (1 : Int32)))) fun y5 => hlet (((v0 <<< ((1 : Int32) &&& 31)) + (1 : Int32)) + (1 : Int32)) fun x7 => (v3 ≤ x7 → (wJ35_siftDownUsingComparator_b61 Q r5 v0 v1 v2 v3 v4 v5 ((v0 <<< ((1 : Int32) &&& 31)) + (1 : Int32)) y5 G)) ∧ (¬ v3 ≤ x7 → (hcl G v2 103 ∧ vp_in x7 (hN G v2) ∧ hlet (hR G v2 (Int32.toNatClampNeg x7)) fun y12 => ∃ a13, v4 = some a13 ∧ (hcl G a13 23 ∧ (wX6_compare (fun G14 z15 => (z15 ≤ 0 → (wJ35_siftDownUsingComparator_b61 Q r5 v0 v1 v2 v3 (some a13) v5 ((v0 <<< ((1 : Int32) &&& 31)) + (1 : Int32)) y5 G14)) ∧ (¬ z15 ≤ 0 → (hcl G14 v2 103 ∧ vp_in x7 (hN G14 v2) ∧ hlet (hR G14 v2 (Int32.toNatClampNeg x7)) fun y24 => wJ35_siftDownUsingComparator_b61 Q r5 v0 v1 v2 v3 (some a13) v5 x7 y24 G14))) a13 y5 y12 G))))))
def wJ35_siftDownUsingComparator_l5 (Q : hG → Prop) (n : Nat) : Int32 → Option Nat → Nat → Int32 → Option Nat → Int32 → hG → Prop := Nat.rec (motive := fun _ => Int32 → Option Nat → Nat → Int32 → Option Nat → Int32 → hG → Prop) (fun _ _ _ _ _ _ _ => False) (fun _ ih => wJ35_siftDownUsingComparator_b5 Q ih) n
def wJ35_siftDownUsingComparator (Q : hG → Prop) (v0 : Int32) (v1 : Option Nat) (v2 : Nat) (v3 : Int32) (v4 : Option Nat) (G : hG) : Prop :=
  hlet (((v3).toUInt32 >>> (((1 : Int32)).toUInt32 &&& Int32.toUInt32 31)).toInt32) fun x1 => ∃ n, wJ35_siftDownUsingComparator_l5 Q n v0 v1 v2 v3 v4 x1 G
abbrev rmJ35_siftDownUsingComparator : Room := { frames := 4, cells := 0, slots := 0, locals := 89 }
def wJ35_poll_b79 (Q : hG → Option Nat → Prop) (v2 : Option Nat) (G : hG) : Prop :=
  Q G v2
def wJ35_poll (Q : hG → Option Nat → Prop) (v0 : Nat) (G : hG) : Prop :=
  hcl G v0 19 ∧ hlet (hR G v0 0) fun y2 => ∃ a4, y2 = some a4 ∧ (hcl G a4 103 ∧ vp_in (0 : Int32) (hN G a4) ∧ hlet (hR G a4 (Int32.toNatClampNeg (0 : Int32))) fun y7 => (y7 = none → (wJ35_poll_b79 Q none G)) ∧ (∀ y9, y7 = some y9 → (hcl G v0 19 ∧ (hC G v0 = some (19, true) ∧ hlet (hsI G v0 3 ((hI G v0 3) + (1 : Int32))) fun G13 => hcl G13 v0 19 ∧ (hC G13 v0 = some (19, true) ∧ hlet (hsI G13 v0 1 ((hI G13 v0 1) - (1 : Int32))) fun G18 => hcl G18 a4 103 ∧ vp_in ((hI G13 v0 1) - (1 : Int32)) (hN G18 a4) ∧ hlet (hR G18 a4 (Int32.toNatClampNeg ((hI G13 v0 1) - (1 : Int32)))) fun y24 => hC G18 a4 = some (103, true) ∧ vp_in ((hI G13 v0 1) - (1 : Int32)) (hN G18 a4) ∧ hTk G18 3 none ∧ hlet (hsR G18 a4 (Int32.toNatClampNeg ((hI G13 v0 1) - (1 : Int32))) none) fun G29 => (((hI G13 v0 1) - (1 : Int32)) ≤ 0 → (wJ35_poll_b79 Q (some y9) G29)) ∧ (¬ ((hI G13 v0 1) - (1 : Int32)) ≤ 0 → (hcl G29 v0 19 ∧ hlet (hR G29 v0 2) fun y34 => (y34 = none → (False)) ∧ (∀ y36, y34 = some y36 → (wJ35_siftDownUsingComparator (fun G38 => wJ35_poll_b79 Q (some y9) G38) (0 : Int32) y24 a4 ((hI G13 v0 1) - (1 : Int32)) (some y36) G29)))))))))
abbrev rmJ35_poll : Room := { frames := 5, cells := 0, slots := 0, locals := 117 }
def wX2_suggestion_b63 (Q : hG → Int64 → Prop) (s0 : Int64) (G : hG) : Prop :=
  Q G s0
def wX2_suggestion_b37 (Q : hG → Int64 → Prop) (v3 : Option Nat) (G : hG) : Prop :=
  ∃ a1, v3 = some a1 ∧ (hcl G a1 19 ∧ (wJ2_isEmpty_c19 (fun G2 z3 => (z3 = 0 → (hcl G2 a1 19 ∧ (wJ35_peek (fun G9 z10 => (∀ y, z10 = some y → hcl G9 y 6) ∧ (∃ a16, z10 = some a16 ∧ (hcl G9 a16 6 ∧ hlet (hR G9 a16 0) fun y18 => ∃ a19, y18 = some a19 ∧ (hcl G9 a19 4 ∧ (wX2_suggestion_b63 Q (hJ G9 a19 0) G9))))) a1 G2))) ∧ (¬ z3 = 0 → (wX2_suggestion_b63 Q (-1 : Int64) G2))) a1 G))
def wX2_suggestion_b9 (Q : hG → Int64 → Prop) (r9 : Int32 → Option Nat → Int32 → hG → Prop) (v2 : Int32) (v3 : Option Nat) (v4 : Int32) (G : hG) : Prop :=
  (v2 ≤ v4 → (wX2_suggestion_b37 Q v3 G)) ∧ (¬ v2 ≤ v4 → (∃ a2, v3 = some a2 ∧ (hcl G a2 19 ∧ (wJ2_isEmpty_c19 (fun G3 z4 => (z4 = 0 → (hcl G3 a2 19 ∧ (wJ35_poll (fun G10 z11 => (∀ y, z11 = some y → hcl G10 y 6) ∧ (r9 v2 (some a2) (v4 + (1 : Int32)) G10)) a2 G3))) ∧ (¬ z4 = 0 → (wX2_suggestion_b37 Q (some a2) G3))) a2 G))))
def wX2_suggestion_l9 (Q : hG → Int64 → Prop) (n : Nat) : Int32 → Option Nat → Int32 → hG → Prop := Nat.rec (motive := fun _ => Int32 → Option Nat → Int32 → hG → Prop) (fun _ _ _ _ => False) (fun _ ih => wX2_suggestion_b9 Q ih) n
def wX2_suggestion (Q : hG → Int64 → Prop) (v0 : Nat) (v1 : Nat) (v2 : Int32) (G : hG) : Prop :=
  hcl G v0 2 ∧ (wX2_suggestions (fun G1 z2 => ∃ n, wX2_suggestion_l9 Q n v2 z2 (0 : Int32) G1) v0 v1 G)
abbrev rmX2_suggestion : Room := { frames := 14, cells := 93, slots := 3364, locals := 311 }
def wX1_suggestion_b19 (Q : hG → Int64 → Prop) (X : Bool → hG → Prop) (v0 : Nat) (v3 : Int32) (v4 : Nat) (s0 : Int32) (G : hG) : Prop :=
  wX1_requireArgument (fun G1 => hcl G1 v0 1 ∧ hlet (hR G1 v0 0) fun y6 => ∃ a7, y6 = some a7 ∧ (hcl G1 a7 2 ∧ (wX2_suggestion (fun G8 z9 => Q G8 z9) a7 v4 v3 G1))) X s0 (hK G 117) G
def wX1_suggestion (Q : hG → Int64 → Prop) (X : Bool → hG → Prop) (v0 : Nat) (v1 : Int64) (v3 : Int32) (G : hG) : Prop :=
  ∀ q1, hfr G q1 → hlet (hnw G q1 4 0) fun G2 => wX5_init (fun G6 => (v3 < 0 → (wX1_suggestion_b19 Q X v0 v3 q1 (0 : Int32) G6)) ∧ (¬ v3 < 0 → (wX1_suggestion_b19 Q X v0 v3 q1 (1 : Int32) G6))) X q1 v1 G2
abbrev rmX1_suggestion : Room := { frames := 15, cells := 96, slots := 3378, locals := 336 }
def wX0_suggestion (Q : hG → Int32 → Prop) (v0 : Nat) (v1 : Int64) (v3 : Int32) (v4 : Nat) (G : hG) : Prop :=
  hcl G v0 1 ∧ (wX1_suggestion (fun G1 z2 => hC G1 v4 = some (101, true) ∧ vp_in (0 : Int32) (hN G1 v4) ∧ hlet (hsJ G1 v4 (Int32.toNatClampNeg (0 : Int32)) z2) fun G12 => Q G12 (0 : Int32)) (fun k G5 => hXc k (∀ q4 : Nat, Q G5 (1 : Int32)) False) v0 v1 v3 G)
abbrev rmX0_suggestion : Room := { frames := 16, cells := 96, slots := 3378, locals := 360 }
def wX2_reason_b44 (Q : hG → Int32 → Prop) (s0 : Int32) (G : hG) : Prop :=
  Q G s0
def wX2_reason (Q : hG → Int32 → Prop) (v0 : Nat) (v1 : Nat) (v2 : Nat) (G : hG) : Prop :=
  hcl G v0 2 ∧ hlet (hR G v0 0) fun y2 => ∃ a3, y2 = some a3 ∧ (hcl G a3 9 ∧ (wJ1_containsKey (fun G4 z5 => (z5 = 0 → (Q G4 (1 : Int32))) ∧ (¬ z5 = 0 → (hcl G4 v0 2 ∧ (wX2_isBanned (fun G11 z12 => (z12 = 0 → (hcl G11 v0 2 ∧ (wX2_distance (fun G18 z19 => hcl G18 v0 2 ∧ hlet (hR G18 v0 7) fun y25 => ∃ a26, y25 = some a26 ∧ (hcl G18 a26 100 ∧ vp_in (0 : Int32) (hN G18 a26) ∧ ((z19 ≤ (hI G18 a26 (Int32.toNatClampNeg (0 : Int32))) → (wX2_reason_b44 Q (0 : Int32) G18)) ∧ (¬ z19 ≤ (hI G18 a26 (Int32.toNatClampNeg (0 : Int32))) → (wX2_reason_b44 Q (3 : Int32) G18))))) v0 v1 v2 G11))) ∧ (¬ z12 = 0 → (Q G11 (2 : Int32)))) v0 v1 v2 G4)))) a3 (some v2) G))
abbrev rmX2_reason : Room := { frames := 13, cells := 2, slots := 85, locals := 285 }
def wX1_reason (Q : hG → Int32 → Prop) (X : Bool → hG → Prop) (v0 : Nat) (v1 : Int64) (v3 : Int64) (G : hG) : Prop :=
  hcl G v0 1 ∧ hlet (hR G v0 0) fun y2 => ∀ q3, hfr G q3 → hlet (hnw G q3 4 0) fun G4 => wX5_init (fun G8 => ∀ q12, hfr G8 q12 → hlet (hnw G8 q12 4 0) fun G13 => wX5_init (fun G17 => ∃ a21, y2 = some a21 ∧ (hcl G17 a21 2 ∧ (wX2_reason (fun G22 z23 => Q G22 z23) a21 q3 q12 G17))) X q12 v3 G13) X q3 v1 G4
abbrev rmX1_reason : Room := { frames := 14, cells := 6, slots := 101, locals := 307 }
def wX0_reason (Q : hG → Int32 → Prop) (v0 : Nat) (v1 : Int64) (v3 : Int64) (v5 : Nat) (G : hG) : Prop :=
  hcl G v0 1 ∧ (wX1_reason (fun G1 z2 => hC G1 v5 = some (101, true) ∧ vp_in (0 : Int32) (hN G1 v5) ∧ hlet (hsJ G1 v5 (Int32.toNatClampNeg (0 : Int32)) ((z2).toInt64)) fun G12 => Q G12 (0 : Int32)) (fun k G5 => hXc k (∀ q4 : Nat, Q G5 (1 : Int32)) False) v0 v1 v3 G)
abbrev rmX0_reason : Room := { frames := 15, cells := 6, slots := 101, locals := 331 }
def wX2_risk_b66 (Q : hG → Int32 → Prop) (r15 : Nat → Nat → Int32 → Option Nat → hG → Prop) (v0 : Nat) (v1 : Nat) (v3 : Nat) (s0 : Int32) (s1 : Int32) (G : hG) : Prop :=
  r15 v0 v1 (s0 + s1) (some v3) G
def wX2_risk_b65 (Q : hG → Int32 → Prop) (r15 : Nat → Nat → Int32 → Option Nat → hG → Prop) (v0 : Nat) (v1 : Nat) (v3 : Nat) (s0 : Int32) (G : hG) : Prop :=
  wX2_risk_b66 Q r15 v0 v1 v3 s0 (0 : Int32) G
def wX2_risk_b15 (Q : hG → Int32 → Prop) (r15 : Nat → Nat → Int32 → Option Nat → hG → Prop) (v0 : Nat) (v1 : Nat) (v2 : Int32) (v3 : Option Nat) (G : hG) : Prop :=
  ∃ a1, v3 = some a1 ∧ (hcl G a1 11 ∧ (wJ15_hasNext_c11 (fun G2 z3 => (z3 = 0 → (Q G2 v2)) ∧ (¬ z3 = 0 → (hcl G2 a1 11 ∧ (wJ17_next (fun G9 z10 => (∀ y, z10 = some y → hcl G9 y 4) ∧ (∃ a17, z10 = some a17 ∧ (hcl G9 a17 4 ∧ (wX5_equals (fun G18 z19 => (z19 = 0 → (hcl G18 v0 2 ∧ (wX2_distance (fun G25 z26 => hcl G25 v0 2 ∧ hlet (hR G25 v0 7) fun y32 => ∃ a33, y32 = some a33 ∧ (hcl G25 a33 100 ∧ vp_in (0 : Int32) (hN G25 a33) ∧ (((hI G25 a33 (Int32.toNatClampNeg (0 : Int32))) < z26 → (wX2_risk_b65 Q r15 v0 v1 a1 v2 G25)) ∧ (¬ (hI G25 a33 (Int32.toNatClampNeg (0 : Int32))) < z26 → (wX2_risk_b66 Q r15 v0 v1 a1 v2 (1 : Int32) G25))))) v0 v1 a17 G18))) ∧ (¬ z19 = 0 → (wX2_risk_b65 Q r15 v0 v1 a1 v2 G18))) a17 (some v1) G9)))) a1 G2)))) a1 G))
def wX2_risk_l15 (Q : hG → Int32 → Prop) (n : Nat) : Nat → Nat → Int32 → Option Nat → hG → Prop := Nat.rec (motive := fun _ => Nat → Nat → Int32 → Option Nat → hG → Prop) (fun _ _ _ _ _ => False) (fun _ ih => wX2_risk_b15 Q ih) n
def wX2_risk (Q : hG → Int32 → Prop) (v0 : Nat) (v1 : Nat) (G : hG) : Prop :=
  hcl G v0 2 ∧ hlet (hR G v0 0) fun y3 => ∃ a4, y3 = some a4 ∧ (hcl G a4 9 ∧ (wJ1_keySet (fun G5 z6 => ∃ a11, z6 = some a11 ∧ (hcl G5 a11 14 ∧ (wJ18_iterator (fun G12 z13 => wX2_risk_l15 Q 21 v0 v1 (0 : Int32) z13 G12) a11 G5))) a4 G))
abbrev rmX2_risk : Room := { frames := 13, cells := 46, slots := 1875, locals := 285 }
def wX1_risk (Q : hG → Int32 → Prop) (X : Bool → hG → Prop) (v0 : Nat) (v1 : Int64) (G : hG) : Prop :=
  hcl G v0 1 ∧ hlet (hR G v0 0) fun y2 => ∀ q3, hfr G q3 → hlet (hnw G q3 4 0) fun G4 => wX5_init (fun G8 => ∃ a12, y2 = some a12 ∧ (hcl G8 a12 2 ∧ (wX2_risk (fun G13 z14 => Q G13 z14) a12 q3 G8))) X q3 v1 G4
abbrev rmX1_risk : Room := { frames := 14, cells := 48, slots := 1883, locals := 309 }
def wX0_risk (Q : hG → Int32 → Prop) (v0 : Nat) (v1 : Int64) (v3 : Nat) (G : hG) : Prop :=
  hcl G v0 1 ∧ (wX1_risk (fun G1 z2 => hC G1 v3 = some (101, true) ∧ vp_in (0 : Int32) (hN G1 v3) ∧ hlet (hsJ G1 v3 (Int32.toNatClampNeg (0 : Int32)) ((z2).toInt64)) fun G12 => Q G12 (0 : Int32)) (fun k G5 => hXc k (∀ q4 : Nat, Q G5 (1 : Int32)) False) v0 v1 G)
abbrev rmX0_risk : Room := { frames := 15, cells := 48, slots := 1883, locals := 331 }
def wX2_bestDropping_b64 (Q : hG → Int32 → Prop) (r10 : Nat → Nat → Nat → Int32 → Int32 → Int32 → hG → Prop) (v0 : Nat) (v1 : Nat) (v2 : Nat) (v4 : Int32) (v5 : Int32) (v7 : Int32) (s0 : Int32) (G : hG) : Prop :=
  r10 v0 v1 v2 s0 (hMn v4 v7) (v5 + (1 : Int32)) G
def wX2_bestDropping_b10 (Q : hG → Int32 → Prop) (r10 : Nat → Nat → Nat → Int32 → Int32 → Int32 → hG → Prop) (v0 : Nat) (v1 : Nat) (v2 : Nat) (v3 : Int32) (v4 : Int32) (v5 : Int32) (G : hG) : Prop :=
  ((26 : Int32) ≤ v5 → (Q G (((100 : Int32) * v3) + v4))) ∧ (¬ (26 : Int32) ≤ v5 → (hcl G v0 2 ∧ hlet (hR G v0 6) fun y3 => ∃ a4, y3 = some a4 ∧ (hcl G a4 100 ∧ vp_in v5 (hN G a4) ∧ (hcl G v0 2 ∧ hlet (hR G v0 6) fun y9 => ∃ a10, y9 = some a10 ∧ (hC G a10 = some (100, true) ∧ vp_in v5 (hN G a10) ∧ hlet (hsI G a10 (Int32.toNatClampNeg v5) (1 : Int32)) fun G13 => hcl G13 v0 2 ∧ (wX2_distance (fun G16 z17 => hcl G16 v0 2 ∧ hlet (hR G16 v0 6) fun y24 => ∃ a25, y24 = some a25 ∧ (hC G16 a25 = some (100, true) ∧ vp_in v5 (hN G16 a25) ∧ hlet (hsI G16 a25 (Int32.toNatClampNeg v5) (hI G a4 (Int32.toNatClampNeg v5))) fun G28 => (v4 ≤ z17 → (wX2_bestDropping_b64 Q r10 v0 v1 v2 v4 v5 z17 v3 G28)) ∧ (¬ v4 ≤ z17 → (wX2_bestDropping_b64 Q r10 v0 v1 v2 v4 v5 z17 v5 G28)))) v0 v1 v2 G13))))))
def wX2_bestDropping_l10 (Q : hG → Int32 → Prop) (n : Nat) : Nat → Nat → Nat → Int32 → Int32 → Int32 → hG → Prop := Nat.rec (motive := fun _ => Nat → Nat → Nat → Int32 → Int32 → Int32 → hG → Prop) (fun _ _ _ _ _ _ _ => False) (fun _ ih => wX2_bestDropping_b10 Q ih) n
def wX2_bestDropping (Q : hG → Int32 → Prop) (v0 : Nat) (v1 : Nat) (v2 : Nat) (G : hG) : Prop :=
  wX2_bestDropping_l10 Q 27 v0 v1 v2 (0 : Int32) (2147483647 : Int32) (0 : Int32) G
abbrev rmX2_bestDropping : Room := { frames := 13, cells := 56, slots := 2380, locals := 285 }
def wX1_bestDropping (Q : hG → Int32 → Prop) (X : Bool → hG → Prop) (v0 : Nat) (v1 : Int64) (v3 : Int64) (G : hG) : Prop :=
  hcl G v0 1 ∧ hlet (hR G v0 0) fun y2 => ∀ q3, hfr G q3 → hlet (hnw G q3 4 0) fun G4 => wX5_init (fun G8 => ∀ q12, hfr G8 q12 → hlet (hnw G8 q12 4 0) fun G13 => wX5_init (fun G17 => ∃ a21, y2 = some a21 ∧ (hcl G17 a21 2 ∧ (wX2_bestDropping (fun G22 z23 => Q G22 z23) a21 q3 q12 G17))) X q12 v3 G13) X q3 v1 G4
abbrev rmX1_bestDropping : Room := { frames := 14, cells := 60, slots := 2396, locals := 312 }
def wX0_bestDropping (Q : hG → Int32 → Prop) (v0 : Nat) (v1 : Int64) (v3 : Int64) (v5 : Nat) (G : hG) : Prop :=
  hcl G v0 1 ∧ (wX1_bestDropping (fun G1 z2 => hC G1 v5 = some (101, true) ∧ vp_in (0 : Int32) (hN G1 v5) ∧ hlet (hsJ G1 v5 (Int32.toNatClampNeg (0 : Int32)) ((z2).toInt64)) fun G12 => Q G12 (0 : Int32)) (fun k G5 => hXc k (∀ q4 : Nat, Q G5 (1 : Int32)) False) v0 v1 v3 G)
abbrev rmX0_bestDropping : Room := { frames := 15, cells := 60, slots := 2396, locals := 336 }
def wX1_type_b29 (Q : hG → Int32 → Prop) (X : Bool → hG → Prop) (v0 : Nat) (v1 : Int32) (s0 : Int32) (G : hG) : Prop :=
  wX1_requireState (fun G1 => hcl G1 v0 1 ∧ hlet (hR G1 v0 2) fun y6 => hcl G1 v0 1 ∧ (∃ a8, y6 = some a8 ∧ (hC G1 a8 = some (102, true) ∧ vp_in (hI G1 v0 3) (hN G1 a8) ∧ hlet (hsI G1 a8 (Int32.toNatClampNeg (hI G1 v0 3)) ((((v1).toInt8.toInt32)).toInt8.toInt32)) fun G11 => hcl G11 v0 1 ∧ (hC G11 v0 = some (1, true) ∧ hlet (hsI G11 v0 3 ((hI G11 v0 3) + (1 : Int32))) fun G16 => hcl G16 v0 1 ∧ (Q G16 (hI G16 v0 3)))))) X s0 (hK G 119) G
def wX1_type (Q : hG → Int32 → Prop) (X : Bool → hG → Prop) (v0 : Nat) (v1 : Int32) (G : hG) : Prop :=
  wX1_inRange (fun G1 z2 => wX1_requireArgument (fun G6 => hcl G6 v0 1 ∧ (((150 : Int32) ≤ (hI G6 v0 3) → (wX1_type_b29 Q X v0 v1 (0 : Int32) G6)) ∧ (¬ (150 : Int32) ≤ (hI G6 v0 3) → (wX1_type_b29 Q X v0 v1 (1 : Int32) G6)))) X z2 (hK G1 118) G1) ((v1).toInt64) (0 : Int64) (127 : Int64) G
abbrev rmX1_type : Room := { frames := 7, cells := 2, slots := 12, locals := 111 }
def wX0_type (Q : hG → Int32 → Prop) (v0 : Nat) (v1 : Int32) (v2 : Nat) (G : hG) : Prop :=
  hcl G v0 1 ∧ (wX1_type (fun G1 z2 => hC G1 v2 = some (101, true) ∧ vp_in (0 : Int32) (hN G1 v2) ∧ hlet (hsJ G1 v2 (Int32.toNatClampNeg (0 : Int32)) ((z2).toInt64)) fun G13 => Q G13 (0 : Int32)) (fun k G5 => hXc k (∀ q4 : Nat, Q G5 (1 : Int32)) (∀ q4 : Nat, Q G5 (2 : Int32))) v0 v1 G)
abbrev rmX0_type : Room := { frames := 8, cells := 2, slots := 12, locals := 132 }
def wX1_undo_b15 (Q : hG → Int32 → Prop) (X : Bool → hG → Prop) (v0 : Nat) (s0 : Int32) (G : hG) : Prop :=
  wX1_requireState (fun G1 => hcl G1 v0 1 ∧ hlet (hR G1 v0 1) fun y6 => hcl G1 v0 1 ∧ hlet (hR G1 v0 1) fun y8 => ∃ a9, y8 = some a9 ∧ (hcl G1 a9 18 ∧ (wJ6_size (fun G10 z11 => ∃ a16, y6 = some a16 ∧ (hcl G10 a16 18 ∧ (wJ6_remove (fun G17 z18 => (∀ y, z18 = some y → hcl G17 y 2) ∧ (hC G17 v0 = some (1, true) ∧ hlet (hsR G17 v0 0 z18) fun G25 => hcl G25 v0 1 ∧ hlet (hR G25 v0 1) fun y29 => ∃ a30, y29 = some a30 ∧ (hcl G25 a30 18 ∧ (wJ6_size (fun G31 z32 => Q G31 z32) a30 G25)))) a16 (z11 - (1 : Int32)) G10))) a9 G1))) X s0 (hK G 120) G
def wX1_undo (Q : hG → Int32 → Prop) (X : Bool → hG → Prop) (v0 : Nat) (G : hG) : Prop :=
  hcl G v0 1 ∧ hlet (hR G v0 1) fun y2 => ∃ a3, y2 = some a3 ∧ (hcl G a3 18 ∧ (wJ6_size (fun G4 z5 => (z5 ≤ 0 → (wX1_undo_b15 Q X v0 (0 : Int32) G4)) ∧ (¬ z5 ≤ 0 → (wX1_undo_b15 Q X v0 (1 : Int32) G4))) a3 G))
abbrev rmX1_undo : Room := { frames := 7, cells := 1, slots := 6, locals := 111 }
def wX0_undo (Q : hG → Int32 → Prop) (v0 : Nat) (v1 : Nat) (G : hG) : Prop :=
  hcl G v0 1 ∧ (wX1_undo (fun G1 z2 => hC G1 v1 = some (101, true) ∧ vp_in (0 : Int32) (hN G1 v1) ∧ hlet (hsJ G1 v1 (Int32.toNatClampNeg (0 : Int32)) ((z2).toInt64)) fun G12 => Q G12 (0 : Int32)) (fun k G5 => hXc k False (∀ q4 : Nat, Q G5 (1 : Int32))) v0 G)
abbrev rmX0_undo : Room := { frames := 8, cells := 1, slots := 6, locals := 131 }
def wX4_init (Q : hG → Prop) (v0 : Nat) (G : hG) : Prop :=
  ∀ q1, hfr G q1 → hlet (hnw G q1 101 305) fun G2 => hC G2 v0 = some (0, true) ∧ hlet (hsR G2 v0 0 (some q1)) fun G7 => ∀ q10, hfr G7 q10 → hlet (hnw G7 q10 101 1220) fun G11 => hC G11 v0 = some (0, true) ∧ hlet (hsR G11 v0 1 (some q10)) fun G16 => ∀ q19, hfr G16 q19 → hlet (hnw G16 q19 100 26) fun G20 => hC G20 q19 = some (100, true) ∧ vp_in (0 : Int32) (hN G20 q19) ∧ hlet (hsI G20 q19 (Int32.toNatClampNeg (0 : Int32)) (10 : Int32)) fun G26 => hC G26 q19 = some (100, true) ∧ vp_in (1 : Int32) (hN G26 q19) ∧ hlet (hsI G26 q19 (Int32.toNatClampNeg (1 : Int32)) (24 : Int32)) fun G31 => hC G31 q19 = some (100, true) ∧ vp_in (2 : Int32) (hN G31 q19) ∧ hlet (hsI G31 q19 (Int32.toNatClampNeg (2 : Int32)) (22 : Int32)) fun G36 => hC G36 q19 = some (100, true) ∧ vp_in (3 : Int32) (hN G36 q19) ∧ hlet (hsI G36 q19 (Int32.toNatClampNeg (3 : Int32)) (12 : Int32)) fun G41 => hC G41 q19 = some (100, true) ∧ vp_in (4 : Int32) (hN G41 q19) ∧ hlet (hsI G41 q19 (Int32.toNatClampNeg (4 : Int32)) (2 : Int32)) fun G46 => hC G46 q19 = some (100, true) ∧ vp_in (5 : Int32) (hN G46 q19) ∧ hlet (hsI G46 q19 (Int32.toNatClampNeg (5 : Int32)) (13 : Int32)) fun G51 => hC G51 q19 = some (100, true) ∧ vp_in (6 : Int32) (hN G51 q19) ∧ hlet (hsI G51 q19 (Int32.toNatClampNeg (6 : Int32)) (14 : Int32)) fun G56 => hC G56 q19 = some (100, true) ∧ vp_in (7 : Int32) (hN G56 q19) ∧ hlet (hsI G56 q19 (Int32.toNatClampNeg (7 : Int32)) (15 : Int32)) fun G61 => hC G61 q19 = some (100, true) ∧ vp_in (8 : Int32) (hN G61 q19) ∧ hlet (hsI G61 q19 (Int32.toNatClampNeg (8 : Int32)) (7 : Int32)) fun G66 => hC G66 q19 = some (100, true) ∧ vp_in (9 : Int32) (hN G66 q19) ∧ hlet (hsI G66 q19 (Int32.toNatClampNeg (9 : Int32)) (16 : Int32)) fun G71 => hC G71 q19 = some (100, true) ∧ vp_in (10 : Int32) (hN G71 q19) ∧ hlet (hsI G71 q19 (Int32.toNatClampNeg (10 : Int32)) (17 : Int32)) fun G76 => hC G76 q19 = some (100, true) ∧ vp_in (11 : Int32) (hN G76 q19) ∧ hlet (hsI G76 q19 (Int32.toNatClampNeg (11 : Int32)) (18 : Int32)) fun G81 => hC G81 q19 = some (100, true) ∧ vp_in (12 : Int32) (hN G81 q19) ∧ hlet (hsI G81 q19 (Int32.toNatClampNeg (12 : Int32)) (26 : Int32)) fun G86 => hC G86 q19 = some (100, true) ∧ vp_in (13 : Int32) (hN G86 q19) ∧ hlet (hsI G86 q19 (Int32.toNatClampNeg (13 : Int32)) (25 : Int32)) fun G91 => hC G91 q19 = some (100, true) ∧ vp_in (14 : Int32) (hN G91 q19) ∧ hlet (hsI G91 q19 (Int32.toNatClampNeg (14 : Int32)) (8 : Int32)) fun G96 => hC G96 q19 = some (100, true) ∧ vp_in (15 : Int32) (hN G96 q19) ∧ hlet (hsI G96 q19 (Int32.toNatClampNeg (15 : Int32)) (9 : Int32)) fun G101 => hC G101 q19 = some (100, true) ∧ vp_in (16 : Int32) (hN G101 q19) ∧ hlet (hsI G101 q19 (Int32.toNatClampNeg (16 : Int32)) (0 : Int32)) fun G106 => hC G106 q19 = some (100, true) ∧ vp_in (17 : Int32) (hN G106 q19) ∧ hlet (hsI G106 q19 (Int32.toNatClampNeg (17 : Int32)) (3 : Int32)) fun G111 => hC G111 q19 = some (100, true) ∧ vp_in (18 : Int32) (hN G111 q19) ∧ hlet (hsI G111 q19 (Int32.toNatClampNeg (18 : Int32)) (11 : Int32)) fun G116 => hC G116 q19 = some (100, true) ∧ vp_in (19 : Int32) (hN G116 q19) ∧ hlet (hsI G116 q19 (Int32.toNatClampNeg (19 : Int32)) (4 : Int32)) fun G121 => hC G121 q19 = some (100, true) ∧ vp_in (20 : Int32) (hN G121 q19) ∧ hlet (hsI G121 q19 (Int32.toNatClampNeg (20 : Int32)) (6 : Int32)) fun G126 => hC G126 q19 = some (100, true) ∧ vp_in (21 : Int32) (hN G126 q19) ∧ hlet (hsI G126 q19 (Int32.toNatClampNeg (21 : Int32)) (23 : Int32)) fun G131 => hC G131 q19 = some (100, true) ∧ vp_in (22 : Int32) (hN G131 q19) ∧ hlet (hsI G131 q19 (Int32.toNatClampNeg (22 : Int32)) (1 : Int32)) fun G136 => hC G136 q19 = some (100, true) ∧ vp_in (23 : Int32) (hN G136 q19) ∧ hlet (hsI G136 q19 (Int32.toNatClampNeg (23 : Int32)) (21 : Int32)) fun G141 => hC G141 q19 = some (100, true) ∧ vp_in (24 : Int32) (hN G141 q19) ∧ hlet (hsI G141 q19 (Int32.toNatClampNeg (24 : Int32)) (5 : Int32)) fun G146 => hC G146 q19 = some (100, true) ∧ vp_in (25 : Int32) (hN G146 q19) ∧ hlet (hsI G146 q19 (Int32.toNatClampNeg (25 : Int32)) (20 : Int32)) fun G151 => hC G151 v0 = some (0, true) ∧ hlet (hsR G151 v0 5 (some q19)) fun G155 => ∀ q158, hfr G155 q158 → hlet (hnw G155 q158 100 8) fun G159 => hC G159 v0 = some (0, true) ∧ hlet (hsR G159 v0 6 (some q158)) fun G164 => ∀ q167, hfr G164 q167 → hlet (hnw G164 q167 100 8) fun G168 => hC G168 v0 = some (0, true) ∧ hlet (hsR G168 v0 7 (some q167)) fun G173 => ∀ q176, hfr G173 q176 → hlet (hnw G173 q176 100 81) fun G177 => hC G177 v0 = some (0, true) ∧ hlet (hsR G177 v0 8 (some q176)) fun G182 => ∀ q185, hfr G182 q185 → hlet (hnw G182 q185 100 150) fun G186 => hC G186 v0 = some (0, true) ∧ hlet (hsR G186 v0 10 (some q185)) fun G191 => ∀ q194, hfr G191 q194 → hlet (hnw G191 q194 100 40) fun G195 => hC G195 v0 = some (0, true) ∧ hlet (hsR G195 v0 13 (some q194)) fun G200 => ∀ q203, hfr G200 q203 → hlet (hnw G200 q203 101 40) fun G204 => hC G204 v0 = some (0, true) ∧ hlet (hsR G204 v0 14 (some q203)) fun G209 => ∀ q212, hfr G209 q212 → hlet (hnw G209 q212 101 40) fun G213 => hC G213 v0 = some (0, true) ∧ hlet (hsR G213 v0 15 (some q212)) fun G218 => hcl G218 v0 0 ∧ hlet (hR G218 v0 0) fun y222 => ∃ a223, y222 = some a223 ∧ (hC G218 a223 = some (101, true) ∧ vp_in (6 : Int32) (hN G218 a223) ∧ hlet (hsJ G218 a223 (Int32.toNatClampNeg (6 : Int32)) (4 : Int64)) fun G226 => hcl G226 v0 0 ∧ hlet (hR G226 v0 0) fun y230 => ∃ a231, y230 = some a231 ∧ (hC G226 a231 = some (101, true) ∧ vp_in (7 : Int32) (hN G226 a231) ∧ hlet (hsJ G226 a231 (Int32.toNatClampNeg (7 : Int32)) (2 : Int64)) fun G234 => hcl G234 v0 0 ∧ hlet (hR G234 v0 0) fun y238 => ∃ a239, y238 = some a239 ∧ (hC G234 a239 = some (101, true) ∧ vp_in (8 : Int32) (hN G234 a239) ∧ hlet (hsJ G234 a239 (Int32.toNatClampNeg (8 : Int32)) (3 : Int64)) fun G242 => Q G242)))
abbrev rmX4_init : Room := { frames := 1, cells := 10, slots := 1918, locals := 12 }
def wX4_thrown (Q : hG → Int32 → Prop) (v0 : Nat) (G : hG) : Prop :=
  hcl G v0 0 ∧ (Q G (hI G v0 4))
abbrev rmX4_thrown : Room := { frames := 0, cells := 0, slots := 0, locals := 0 }
def wX4_in_b18 (Q : hG → Int32 → Prop) (s0 : Int32) (G : hG) : Prop :=
  hFt .boolean s0 ∧ Q G s0
def wX4_in_b17 (Q : hG → Int32 → Prop)  (G : hG) : Prop :=
  wX4_in_b18 Q (0 : Int32) G
def wX4_in (Q : hG → Int32 → Prop) (v0 : Int64) (v2 : Int64) (v4 : Int64) (G : hG) : Prop :=
  (v0 < v2 → (wX4_in_b17 Q G)) ∧ (¬ v0 < v2 → ((v4 < v0 → (wX4_in_b17 Q G)) ∧ (¬ v4 < v0 → (wX4_in_b18 Q (1 : Int32) G))))
abbrev rmX4_in : Room := { frames := 0, cells := 0, slots := 0, locals := 0 }
def wX4_isWord_b60 (Q : hG → Int32 → Prop) (r30 : Int32 → Int64 → hG → Prop) (v3 : Int64) (s0 : Int32) (G : hG) : Prop :=
  r30 s0 (v3 >>> (((5 : Int32)).toInt64 &&& 63)) G
def wX4_isWord_b59 (Q : hG → Int32 → Prop) (r30 : Int32 → Int64 → hG → Prop) (v3 : Int64) (G : hG) : Prop :=
  wX4_isWord_b60 Q r30 v3 (0 : Int32) G
def wX4_isWord_b30 (Q : hG → Int32 → Prop) (r30 : Int32 → Int64 → hG → Prop) (v2 : Int32) (v3 : Int64) (G : hG) : Prop :=
  (v3 ≤ (0 : Int64) → (hFt .boolean v2 ∧ Q G v2)) ∧ (¬ v3 ≤ (0 : Int64) → ((v2 = 0 → (wX4_isWord_b59 Q r30 v3 G)) ∧ (¬ v2 = 0 → (wX4_in (fun G3 z4 => (z4 = 0 → (wX4_isWord_b59 Q r30 v3 G3)) ∧ (¬ z4 = 0 → (wX4_isWord_b60 Q r30 v3 (1 : Int32) G3))) (v3 &&& (31 : Int64)) (1 : Int64) (26 : Int64) G))))
def wX4_isWord_l30 (Q : hG → Int32 → Prop) (n : Nat) : Int32 → Int64 → hG → Prop := Nat.rec (motive := fun _ => Int32 → Int64 → hG → Prop) (fun _ _ _ => False) (fun _ ih => wX4_isWord_b30 Q ih) n
def wX4_isWord_b29 (Q : hG → Int32 → Prop) (v2 : Int32) (s0 : Int64) (G : hG) : Prop :=
  ∃ n, wX4_isWord_l30 Q n v2 s0 G
def wX4_isWord_b19 (Q : hG → Int32 → Prop) (v0 : Int64) (s0 : Int32) (G : hG) : Prop :=
  (s0 = 0 → (wX4_isWord_b29 Q s0 (0 : Int64) G)) ∧ (¬ s0 = 0 → (wX4_isWord_b29 Q s0 v0 G))
def wX4_isWord_b18 (Q : hG → Int32 → Prop) (v0 : Int64) (G : hG) : Prop :=
  wX4_isWord_b19 Q v0 (0 : Int32) G
def wX4_isWord (Q : hG → Int32 → Prop) (v0 : Int64) (G : hG) : Prop :=
  (v0 ≤ (0 : Int64) → (wX4_isWord_b18 Q v0 G)) ∧ (¬ v0 ≤ (0 : Int64) → (((1099511627776 : Int64) ≤ v0 → (wX4_isWord_b18 Q v0 G)) ∧ (¬ (1099511627776 : Int64) ≤ v0 → (wX4_isWord_b19 Q v0 (1 : Int32) G))))
abbrev rmX4_isWord : Room := { frames := 1, cells := 0, slots := 0, locals := 25 }
def wX4_many (Q : hG → Int32 → Prop) (v0 : Nat) (v1 : Int32) (G : hG) : Prop :=
  hcl G v0 0 ∧ hlet (hR G v0 0) fun y2 => ∃ a3, y2 = some a3 ∧ (hcl G a3 101 ∧ vp_in v1 (hN G a3) ∧ (Q G (((hJ G a3 (Int32.toNatClampNeg v1))).toInt32)))
abbrev rmX4_many : Room := { frames := 0, cells := 0, slots := 0, locals := 0 }
def wX4_find_b38 (Q : hG → Int32 → Prop) (r6 : Nat → Int32 → Int32 → Int64 → Int32 → Int32 → hG → Prop) (v0 : Nat) (v1 : Int32) (v2 : Int32) (v3 : Int64) (v6 : Int32) (s0 : Int32) (G : hG) : Prop :=
  r6 v0 v1 v2 v3 s0 (v6 + (1 : Int32)) G
def wX4_find_b46 (Q : hG → Int32 → Prop) (v5 : Int32) (G : hG) : Prop :=
  Q G v5
def wX4_find_b6 (Q : hG → Int32 → Prop) (r6 : Nat → Int32 → Int32 → Int64 → Int32 → Int32 → hG → Prop) (v0 : Nat) (v1 : Int32) (v2 : Int32) (v3 : Int64) (v5 : Int32) (v6 : Int32) (G : hG) : Prop :=
  (v2 ≤ v6 → (wX4_find_b46 Q v5 G)) ∧ (¬ v2 ≤ v6 → ((v5 = (-1 : Int32) → (hcl G v0 0 ∧ hlet (hR G v0 0) fun y4 => ∃ a5, y4 = some a5 ∧ (hcl G a5 101 ∧ vp_in (v1 + v6) (hN G a5) ∧ (((hJ G a5 (Int32.toNatClampNeg (v1 + v6))) = v3 → (wX4_find_b38 Q r6 v0 v1 v2 v3 v6 v6 G)) ∧ (¬ (hJ G a5 (Int32.toNatClampNeg (v1 + v6))) = v3 → (wX4_find_b38 Q r6 v0 v1 v2 v3 v6 (-1 : Int32) G)))))) ∧ (¬ v5 = (-1 : Int32) → (wX4_find_b46 Q v5 G))))
def wX4_find_l6 (Q : hG → Int32 → Prop) (n : Nat) : Nat → Int32 → Int32 → Int64 → Int32 → Int32 → hG → Prop := Nat.rec (motive := fun _ => Nat → Int32 → Int32 → Int64 → Int32 → Int32 → hG → Prop) (fun _ _ _ _ _ _ _ => False) (fun _ ih => wX4_find_b6 Q ih) n
def wX4_find (Q : hG → Int32 → Prop) (v0 : Nat) (v1 : Int32) (v2 : Int32) (v3 : Int64) (G : hG) : Prop :=
  ∃ n, wX4_find_l6 Q n v0 v1 v2 v3 (-1 : Int32) (0 : Int32) G
abbrev rmX4_find : Room := { frames := 0, cells := 0, slots := 0, locals := 0 }
def wX4_place (Q : hG → Int32 → Prop) (v0 : Nat) (v1 : Int64) (G : hG) : Prop :=
  hcl G v0 0 ∧ (wX4_many (fun G1 z2 => hcl G1 v0 0 ∧ (wX4_find (fun G7 z8 => Q G7 z8) v0 (35 : Int32) z2 v1 G1)) v0 (0 : Int32) G)
abbrev rmX4_place : Room := { frames := 1, cells := 0, slots := 0, locals := 26 }
def wX4_fails (Q : hG → Int32 → Prop) (v0 : Nat) (v1 : Int32) (G : hG) : Prop :=
  hC G v0 = some (0, true) ∧ hlet (hsI G v0 4 v1) fun G2 => Q G2 (0 : Int32)
abbrev rmX4_fails : Room := { frames := 0, cells := 0, slots := 0, locals := 0 }
def wX4_save_b59 (Q : hG → Prop) (r59 : Nat → Int32 → hG → Prop) (v0 : Nat) (v1 : Int32) (G : hG) : Prop :=
  ((305 : Int32) ≤ v1 → (hcl G v0 0 ∧ (hC G v0 = some (0, true) ∧ hlet (hsI G v0 2 ((hI G v0 2) + (1 : Int32))) fun G4 => Q G4))) ∧ (¬ (305 : Int32) ≤ v1 → (hcl G v0 0 ∧ hlet (hR G v0 1) fun y8 => hcl G v0 0 ∧ (hcl G v0 0 ∧ hlet (hR G v0 0) fun y11 => ∃ a12, y11 = some a12 ∧ (hcl G a12 101 ∧ vp_in v1 (hN G a12) ∧ (∃ a15, y8 = some a15 ∧ (hC G a15 = some (101, true) ∧ vp_in (((305 : Int32) * (hI G v0 2)) + v1) (hN G a15) ∧ hlet (hsJ G a15 (Int32.toNatClampNeg (((305 : Int32) * (hI G v0 2)) + v1)) (hJ G a12 (Int32.toNatClampNeg v1))) fun G18 => r59 v0 (v1 + (1 : Int32)) G18))))))
def wX4_save_l59 (Q : hG → Prop) (n : Nat) : Nat → Int32 → hG → Prop := Nat.rec (motive := fun _ => Nat → Int32 → hG → Prop) (fun _ _ _ => False) (fun _ ih => wX4_save_b59 Q ih) n
def wX4_save_b57 (Q : hG → Prop) (v0 : Nat) (G : hG) : Prop :=
  ∃ n, wX4_save_l59 Q n v0 (0 : Int32) G
def wX4_save_b18 (Q : hG → Prop) (r18 : Nat → Int32 → hG → Prop) (v0 : Nat) (v1 : Int32) (G : hG) : Prop :=
  ((915 : Int32) ≤ v1 → (hcl G v0 0 ∧ (hC G v0 = some (0, true) ∧ hlet (hsI G v0 2 ((hI G v0 2) - (1 : Int32))) fun G4 => wX4_save_b57 Q v0 G4))) ∧ (¬ (915 : Int32) ≤ v1 → (hcl G v0 0 ∧ hlet (hR G v0 1) fun y8 => hcl G v0 0 ∧ hlet (hR G v0 1) fun y10 => ∃ a11, y10 = some a11 ∧ (hcl G a11 101 ∧ vp_in (v1 + (305 : Int32)) (hN G a11) ∧ (∃ a14, y8 = some a14 ∧ (hC G a14 = some (101, true) ∧ vp_in v1 (hN G a14) ∧ hlet (hsJ G a14 (Int32.toNatClampNeg v1) (hJ G a11 (Int32.toNatClampNeg (v1 + (305 : Int32))))) fun G17 => r18 v0 (v1 + (1 : Int32)) G17)))))
def wX4_save_l18 (Q : hG → Prop) (n : Nat) : Nat → Int32 → hG → Prop := Nat.rec (motive := fun _ => Nat → Int32 → hG → Prop) (fun _ _ _ => False) (fun _ ih => wX4_save_b18 Q ih) n
def wX4_save (Q : hG → Prop) (v0 : Nat) (G : hG) : Prop :=
  hcl G v0 0 ∧ (((hI G v0 3) = 0 → (hcl G v0 0 ∧ (((hI G v0 2) = (4 : Int32) → (∃ n, wX4_save_l18 Q n v0 (0 : Int32) G)) ∧ (¬ (hI G v0 2) = (4 : Int32) → (wX4_save_b57 Q v0 G))))) ∧ (¬ (hI G v0 3) = 0 → (Q G)))
abbrev rmX4_save : Room := { frames := 0, cells := 0, slots := 0, locals := 0 }
def wX4_letters_b4 (Q : hG → Int32 → Prop) (r4 : Int32 → Int64 → hG → Prop) (v2 : Int32) (v3 : Int64) (G : hG) : Prop :=
  (v3 ≤ (0 : Int64) → (Q G v2)) ∧ (¬ v3 ≤ (0 : Int64) → (r4 (v2 + (1 : Int32)) (v3 >>> (((5 : Int32)).toInt64 &&& 63)) G))
def wX4_letters_l4 (Q : hG → Int32 → Prop) (n : Nat) : Int32 → Int64 → hG → Prop := Nat.rec (motive := fun _ => Int32 → Int64 → hG → Prop) (fun _ _ _ => False) (fun _ ih => wX4_letters_b4 Q ih) n
def wX4_letters (Q : hG → Int32 → Prop) (v0 : Int64) (G : hG) : Prop :=
  ∃ n, wX4_letters_l4 Q n (0 : Int32) v0 G
abbrev rmX4_letters : Room := { frames := 0, cells := 0, slots := 0, locals := 0 }
def wX4_order (Q : hG → Int64 → Prop) (v0 : Int64) (G : hG) : Prop :=
  wX4_letters (fun G1 z2 => Q G1 (v0 <<< ((((5 : Int32) * ((8 : Int32) - z2))).toInt64 &&& 63))) v0 G
abbrev rmX4_order : Room := { frames := 1, cells := 0, slots := 0, locals := 24 }
def wX4_ahead_b35 (Q : hG → Int32 → Prop) (v5 : Int32) (G : hG) : Prop :=
  Q G v5
def wX4_ahead_b3 (Q : hG → Int32 → Prop) (r3 : Nat → Int32 → Int32 → Int64 → Int32 → hG → Prop) (v0 : Nat) (v1 : Int32) (v2 : Int32) (v3 : Int64) (v5 : Int32) (G : hG) : Prop :=
  (v2 ≤ v5 → (wX4_ahead_b35 Q v5 G)) ∧ (¬ v2 ≤ v5 → (hcl G v0 0 ∧ hlet (hR G v0 0) fun y3 => ∃ a4, y3 = some a4 ∧ (hcl G a4 101 ∧ vp_in (v1 + v5) (hN G a4) ∧ (wX4_order (fun G7 z8 => wX4_order (fun G12 z13 => (z13 ≤ z8 → (wX4_ahead_b35 Q v5 G12)) ∧ (¬ z13 ≤ z8 → (r3 v0 v1 v2 v3 (v5 + (1 : Int32)) G12))) v3 G7) (hJ G a4 (Int32.toNatClampNeg (v1 + v5))) G))))
def wX4_ahead_l3 (Q : hG → Int32 → Prop) (n : Nat) : Nat → Int32 → Int32 → Int64 → Int32 → hG → Prop := Nat.rec (motive := fun _ => Nat → Int32 → Int32 → Int64 → Int32 → hG → Prop) (fun _ _ _ _ _ _ => False) (fun _ ih => wX4_ahead_b3 Q ih) n
def wX4_ahead (Q : hG → Int32 → Prop) (v0 : Nat) (v1 : Int32) (v2 : Int32) (v3 : Int64) (G : hG) : Prop :=
  ∃ n, wX4_ahead_l3 Q n v0 v1 v2 v3 (0 : Int32) G
abbrev rmX4_ahead : Room := { frames := 2, cells := 0, slots := 0, locals := 45 }
def wX4_opens_b3 (Q : hG → Prop) (r3 : Nat → Int32 → Int32 → Int64 → Int32 → hG → Prop) (v0 : Nat) (v1 : Int32) (v3 : Int32) (v4 : Int64) (v6 : Int32) (G : hG) : Prop :=
  (v6 ≤ v3 → (hcl G v0 0 ∧ hlet (hR G v0 0) fun y3 => ∃ a4, y3 = some a4 ∧ (hC G a4 = some (101, true) ∧ vp_in (v1 + v3) (hN G a4) ∧ hlet (hsJ G a4 (Int32.toNatClampNeg (v1 + v3)) v4) fun G7 => Q G7))) ∧ (¬ v6 ≤ v3 → (hcl G v0 0 ∧ hlet (hR G v0 0) fun y11 => hcl G v0 0 ∧ hlet (hR G v0 0) fun y13 => ∃ a14, y13 = some a14 ∧ (hcl G a14 101 ∧ vp_in ((v1 + v6) - (1 : Int32)) (hN G a14) ∧ (∃ a17, y11 = some a17 ∧ (hC G a17 = some (101, true) ∧ vp_in (v1 + v6) (hN G a17) ∧ hlet (hsJ G a17 (Int32.toNatClampNeg (v1 + v6)) (hJ G a14 (Int32.toNatClampNeg ((v1 + v6) - (1 : Int32))))) fun G20 => r3 v0 v1 v3 v4 (v6 + (-1 : Int32)) G20)))))
def wX4_opens_l3 (Q : hG → Prop) (n : Nat) : Nat → Int32 → Int32 → Int64 → Int32 → hG → Prop := Nat.rec (motive := fun _ => Nat → Int32 → Int32 → Int64 → Int32 → hG → Prop) (fun _ _ _ _ _ _ => False) (fun _ ih => wX4_opens_b3 Q ih) n
def wX4_opens (Q : hG → Prop) (v0 : Nat) (v1 : Int32) (v2 : Int32) (v3 : Int32) (v4 : Int64) (G : hG) : Prop :=
  ∃ n, wX4_opens_l3 Q n v0 v1 v3 v4 v2 G
abbrev rmX4_opens : Room := { frames := 0, cells := 0, slots := 0, locals := 0 }
def wX4_addWord_b24 (Q : hG → Int32 → Prop) (v0 : Nat) (G : hG) : Prop :=
  hcl G v0 0 ∧ (wX4_fails (fun G1 z2 => Q G1 z2) v0 (1 : Int32) G)
def wX4_addWord_b59 (Q : hG → Int32 → Prop) (v0 : Nat) (v1 : Int64) (v3 : Int32) (v4 : Int32) (G : hG) : Prop :=
  hcl G v0 0 ∧ (wX4_save (fun G1 => (v4 = (-1 : Int32) → (hcl G1 v0 0 ∧ (wX4_many (fun G7 z8 => hcl G7 v0 0 ∧ (wX4_ahead (fun G13 z14 => hcl G13 v0 0 ∧ (wX4_many (fun G20 z21 => hcl G20 v0 0 ∧ (wX4_opens (fun G26 => hcl G26 v0 0 ∧ (wX4_many (fun G31 z32 => hcl G31 v0 0 ∧ (wX4_opens (fun G37 => hcl G37 v0 0 ∧ hlet (hR G37 v0 0) fun y43 => ∃ a44, y43 = some a44 ∧ (hcl G37 a44 101 ∧ vp_in (0 : Int32) (hN G37 a44) ∧ (hC G37 a44 = some (101, true) ∧ vp_in (0 : Int32) (hN G37 a44) ∧ hlet (hsJ G37 a44 (Int32.toNatClampNeg (0 : Int32)) ((hJ G37 a44 (Int32.toNatClampNeg (0 : Int32))) + (1 : Int64))) fun G49 => Q G49 (0 : Int32)))) v0 (55 : Int32) z32 z14 ((v3).toInt64) G31)) v0 (0 : Int32) G26)) v0 (35 : Int32) z21 z14 v1 G20)) v0 (0 : Int32) G13)) v0 (35 : Int32) z8 v1 G7)) v0 (0 : Int32) G1))) ∧ (¬ v4 = (-1 : Int32) → (hcl G1 v0 0 ∧ hlet (hR G1 v0 0) fun y53 => ∃ a54, y53 = some a54 ∧ (hcl G1 a54 101 ∧ vp_in ((55 : Int32) + v4) (hN G1 a54) ∧ (hlet (((hJ G1 a54 (Int32.toNatClampNeg ((55 : Int32) + v4)))).toInt32) fun x57 => hcl G1 v0 0 ∧ hlet (hR G1 v0 0) fun y60 => ∃ a61, y60 = some a61 ∧ (hC G1 a61 = some (101, true) ∧ vp_in ((55 : Int32) + v4) (hN G1 a61) ∧ hlet (hsJ G1 a61 (Int32.toNatClampNeg ((55 : Int32) + v4)) ((v3).toInt64)) fun G64 => Q G64 x57)))))) v0 G)
def wX4_addWord (Q : hG → Int32 → Prop) (v0 : Nat) (v1 : Int64) (v3 : Int32) (G : hG) : Prop :=
  hC G v0 = some (0, true) ∧ hlet (hsI G v0 4 (0 : Int32)) fun G2 => wX4_isWord (fun G5 z6 => (z6 = 0 → (wX4_addWord_b24 Q v0 G5)) ∧ (¬ z6 = 0 → (wX4_in (fun G11 z12 => (z12 = 0 → (wX4_addWord_b24 Q v0 G11)) ∧ (¬ z12 = 0 → (hcl G11 v0 0 ∧ (wX4_place (fun G17 z18 => (z18 = (-1 : Int32) → (hcl G17 v0 0 ∧ (wX4_many (fun G25 z26 => (z26 = (20 : Int32) → (hcl G25 v0 0 ∧ (wX4_fails (fun G32 z33 => Q G32 z33) v0 (2 : Int32) G25))) ∧ (¬ z26 = (20 : Int32) → (wX4_addWord_b59 Q v0 v1 v3 z18 G25))) v0 (0 : Int32) G17))) ∧ (¬ z18 = (-1 : Int32) → (wX4_addWord_b59 Q v0 v1 v3 z18 G17))) v0 v1 G11)))) ((v3).toInt64) (1 : Int64) (999 : Int64) G5))) v1 G2
abbrev rmX4_addWord : Room := { frames := 3, cells := 0, slots := 0, locals := 70 }
def wX4_closes_b3 (Q : hG → Prop) (r3 : Nat → Int32 → Int32 → Int32 → hG → Prop) (v0 : Nat) (v1 : Int32) (v2 : Int32) (v4 : Int32) (G : hG) : Prop :=
  (v2 ≤ (v4 + (1 : Int32)) → (hcl G v0 0 ∧ hlet (hR G v0 0) fun y3 => ∃ a4, y3 = some a4 ∧ (hC G a4 = some (101, true) ∧ vp_in ((v1 + v2) - (1 : Int32)) (hN G a4) ∧ hlet (hsJ G a4 (Int32.toNatClampNeg ((v1 + v2) - (1 : Int32))) (0 : Int64)) fun G7 => Q G7))) ∧ (¬ v2 ≤ (v4 + (1 : Int32)) → (hcl G v0 0 ∧ hlet (hR G v0 0) fun y11 => hcl G v0 0 ∧ hlet (hR G v0 0) fun y13 => ∃ a14, y13 = some a14 ∧ (hcl G a14 101 ∧ vp_in ((v1 + v4) + (1 : Int32)) (hN G a14) ∧ (∃ a17, y11 = some a17 ∧ (hC G a17 = some (101, true) ∧ vp_in (v1 + v4) (hN G a17) ∧ hlet (hsJ G a17 (Int32.toNatClampNeg (v1 + v4)) (hJ G a14 (Int32.toNatClampNeg ((v1 + v4) + (1 : Int32))))) fun G20 => r3 v0 v1 v2 (v4 + (1 : Int32)) G20)))))
def wX4_closes_l3 (Q : hG → Prop) (n : Nat) : Nat → Int32 → Int32 → Int32 → hG → Prop := Nat.rec (motive := fun _ => Nat → Int32 → Int32 → Int32 → hG → Prop) (fun _ _ _ _ _ => False) (fun _ ih => wX4_closes_b3 Q ih) n
def wX4_closes (Q : hG → Prop) (v0 : Nat) (v1 : Int32) (v2 : Int32) (v3 : Int32) (G : hG) : Prop :=
  ∃ n, wX4_closes_l3 Q n v0 v1 v2 v3 G
abbrev rmX4_closes : Room := { frames := 0, cells := 0, slots := 0, locals := 0 }
def wX4_dropWord (Q : hG → Int32 → Prop) (v0 : Nat) (v1 : Int64) (G : hG) : Prop :=
  hC G v0 = some (0, true) ∧ hlet (hsI G v0 4 (0 : Int32)) fun G2 => wX4_isWord (fun G5 z6 => (z6 = 0 → (hcl G5 v0 0 ∧ (wX4_fails (fun G63 z64 => Q G63 z64) v0 (1 : Int32) G5))) ∧ (¬ z6 = 0 → (hcl G5 v0 0 ∧ (wX4_place (fun G11 z12 => hcl G11 v0 0 ∧ (wX4_save (fun G18 => (z12 = (-1 : Int32) → (Q G18 (0 : Int32))) ∧ (¬ z12 = (-1 : Int32) → (hcl G18 v0 0 ∧ hlet (hR G18 v0 0) fun y25 => ∃ a26, y25 = some a26 ∧ (hcl G18 a26 101 ∧ vp_in ((55 : Int32) + z12) (hN G18 a26) ∧ (hlet (((hJ G18 a26 (Int32.toNatClampNeg ((55 : Int32) + z12)))).toInt32) fun x29 => hcl G18 v0 0 ∧ (wX4_many (fun G31 z32 => hcl G31 v0 0 ∧ (wX4_closes (fun G37 => hcl G37 v0 0 ∧ (wX4_many (fun G42 z43 => hcl G42 v0 0 ∧ (wX4_closes (fun G48 => hcl G48 v0 0 ∧ hlet (hR G48 v0 0) fun y54 => ∃ a55, y54 = some a55 ∧ (hcl G48 a55 101 ∧ vp_in (0 : Int32) (hN G48 a55) ∧ (hC G48 a55 = some (101, true) ∧ vp_in (0 : Int32) (hN G48 a55) ∧ hlet (hsJ G48 a55 (Int32.toNatClampNeg (0 : Int32)) ((hJ G48 a55 (Int32.toNatClampNeg (0 : Int32))) - (1 : Int64))) fun G60 => Q G60 x29))) v0 (55 : Int32) z43 z12 G42)) v0 (0 : Int32) G37)) v0 (35 : Int32) z32 z12 G31)) v0 (0 : Int32) G18)))))) v0 G11)) v0 v1 G5)))) v1 G2
abbrev rmX4_dropWord : Room := { frames := 2, cells := 0, slots := 0, locals := 49 }
def wX4_isName_b21 (Q : hG → Int32 → Prop) (s0 : Int32) (G : hG) : Prop :=
  hFt .boolean s0 ∧ Q G s0
def wX4_isName (Q : hG → Int32 → Prop) (v0 : Nat) (v1 : Int64) (G : hG) : Prop :=
  hcl G v0 0 ∧ (wX4_many (fun G1 z2 => hcl G1 v0 0 ∧ (wX4_find (fun G7 z8 => (z8 = (-1 : Int32) → (wX4_isName_b21 Q (0 : Int32) G7)) ∧ (¬ z8 = (-1 : Int32) → (wX4_isName_b21 Q (1 : Int32) G7))) v0 (75 : Int32) z2 v1 G1)) v0 (1 : Int32) G)
abbrev rmX4_isName : Room := { frames := 1, cells := 0, slots := 0, locals := 26 }
def wX4_names_b42 (Q : hG → Prop)  (G : hG) : Prop :=
  Q G
def wX4_names (Q : hG → Prop) (v0 : Nat) (v1 : Int64) (G : hG) : Prop :=
  hcl G v0 0 ∧ (wX4_isName (fun G1 z2 => (z2 = 0 → (hcl G1 v0 0 ∧ (wX4_many (fun G8 z9 => hcl G8 v0 0 ∧ (wX4_many (fun G14 z15 => hcl G14 v0 0 ∧ (wX4_ahead (fun G20 z21 => hcl G20 v0 0 ∧ (wX4_opens (fun G26 => hcl G26 v0 0 ∧ hlet (hR G26 v0 0) fun y32 => ∃ a33, y32 = some a33 ∧ (hcl G26 a33 101 ∧ vp_in (1 : Int32) (hN G26 a33) ∧ (hC G26 a33 = some (101, true) ∧ vp_in (1 : Int32) (hN G26 a33) ∧ hlet (hsJ G26 a33 (Int32.toNatClampNeg (1 : Int32)) ((hJ G26 a33 (Int32.toNatClampNeg (1 : Int32))) + (1 : Int64))) fun G38 => wX4_names_b42 Q G38))) v0 (75 : Int32) z9 z21 v1 G20)) v0 (75 : Int32) z15 v1 G14)) v0 (1 : Int32) G8)) v0 (1 : Int32) G1))) ∧ (¬ z2 = 0 → (wX4_names_b42 Q G1))) v0 v1 G)
abbrev rmX4_names : Room := { frames := 3, cells := 0, slots := 0, locals := 70 }
def wX4_addName_b62 (Q : hG → Int32 → Prop) (s0 : Int32) (G : hG) : Prop :=
  Q G s0
def wX4_addName_b44 (Q : hG → Int32 → Prop) (v0 : Nat) (v1 : Int64) (v3 : Int32) (G : hG) : Prop :=
  hcl G v0 0 ∧ (wX4_save (fun G1 => hcl G1 v0 0 ∧ (wX4_names (fun G6 => (v3 = 0 → (wX4_addName_b62 Q (1 : Int32) G6)) ∧ (¬ v3 = 0 → (wX4_addName_b62 Q (0 : Int32) G6))) v0 v1 G1)) v0 G)
def wX4_addName (Q : hG → Int32 → Prop) (v0 : Nat) (v1 : Int64) (G : hG) : Prop :=
  hC G v0 = some (0, true) ∧ hlet (hsI G v0 4 (0 : Int32)) fun G2 => wX4_isWord (fun G5 z6 => (z6 = 0 → (hcl G5 v0 0 ∧ (wX4_fails (fun G32 z33 => Q G32 z33) v0 (1 : Int32) G5))) ∧ (¬ z6 = 0 → (hcl G5 v0 0 ∧ (wX4_isName (fun G11 z12 => (z12 = 0 → (hcl G11 v0 0 ∧ (wX4_many (fun G19 z20 => (z20 = (10 : Int32) → (hcl G19 v0 0 ∧ (wX4_fails (fun G26 z27 => Q G26 z27) v0 (2 : Int32) G19))) ∧ (¬ z20 = (10 : Int32) → (wX4_addName_b44 Q v0 v1 z12 G19))) v0 (1 : Int32) G11))) ∧ (¬ z12 = 0 → (wX4_addName_b44 Q v0 v1 z12 G11))) v0 v1 G5)))) v1 G2
abbrev rmX4_addName : Room := { frames := 4, cells := 0, slots := 0, locals := 92 }
def wX4_dropName (Q : hG → Int32 → Prop) (v0 : Nat) (v1 : Int64) (G : hG) : Prop :=
  hC G v0 = some (0, true) ∧ hlet (hsI G v0 4 (0 : Int32)) fun G2 => wX4_isWord (fun G5 z6 => (z6 = 0 → (hcl G5 v0 0 ∧ (wX4_fails (fun G51 z52 => Q G51 z52) v0 (1 : Int32) G5))) ∧ (¬ z6 = 0 → (hcl G5 v0 0 ∧ (wX4_many (fun G11 z12 => hcl G11 v0 0 ∧ (wX4_find (fun G17 z18 => hcl G17 v0 0 ∧ (wX4_save (fun G24 => (z18 = (-1 : Int32) → (Q G24 (0 : Int32))) ∧ (¬ z18 = (-1 : Int32) → (hcl G24 v0 0 ∧ (wX4_many (fun G30 z31 => hcl G30 v0 0 ∧ (wX4_closes (fun G36 => hcl G36 v0 0 ∧ hlet (hR G36 v0 0) fun y42 => ∃ a43, y42 = some a43 ∧ (hcl G36 a43 101 ∧ vp_in (1 : Int32) (hN G36 a43) ∧ (hC G36 a43 = some (101, true) ∧ vp_in (1 : Int32) (hN G36 a43) ∧ hlet (hsJ G36 a43 (Int32.toNatClampNeg (1 : Int32)) ((hJ G36 a43 (Int32.toNatClampNeg (1 : Int32))) - (1 : Int64))) fun G48 => Q G48 (1 : Int32)))) v0 (75 : Int32) z31 z18 G30)) v0 (1 : Int32) G24)))) v0 G17)) v0 (75 : Int32) z12 v1 G11)) v0 (1 : Int32) G5)))) v1 G2
abbrev rmX4_dropName : Room := { frames := 2, cells := 0, slots := 0, locals := 49 }
def wX4_setStick_b29 (Q : hG → Int32 → Prop) (v0 : Nat) (G : hG) : Prop :=
  hcl G v0 0 ∧ (wX4_fails (fun G1 z2 => Q G1 z2) v0 (1 : Int32) G)
def wX4_setStick (Q : hG → Int32 → Prop) (v0 : Nat) (v1 : Int32) (v2 : Int32) (G : hG) : Prop :=
  hC G v0 = some (0, true) ∧ hlet (hsI G v0 4 (0 : Int32)) fun G2 => wX4_in (fun G5 z6 => (z6 = 0 → (wX4_setStick_b29 Q v0 G5)) ∧ (¬ z6 = 0 → (wX4_in (fun G11 z12 => (z12 = 0 → (wX4_setStick_b29 Q v0 G11)) ∧ (¬ z12 = 0 → (hcl G11 v0 0 ∧ (wX4_save (fun G17 => hcl G17 v0 0 ∧ hlet (hR G17 v0 0) fun y23 => ∃ a24, y23 = some a24 ∧ (hcl G17 a24 101 ∧ vp_in ((9 : Int32) + v1) (hN G17 a24) ∧ (hlet (((hJ G17 a24 (Int32.toNatClampNeg ((9 : Int32) + v1)))).toInt32) fun x27 => hcl G17 v0 0 ∧ hlet (hR G17 v0 0) fun y30 => ∃ a31, y30 = some a31 ∧ (hC G17 a31 = some (101, true) ∧ vp_in ((9 : Int32) + v1) (hN G17 a31) ∧ hlet (hsJ G17 a31 (Int32.toNatClampNeg ((9 : Int32) + v1)) ((v2).toInt64)) fun G34 => Q G34 x27)))) v0 G11)))) ((v2).toInt64) (0 : Int64) (2 : Int64) G5))) ((v1).toInt64) (0 : Int64) (25 : Int64) G2
abbrev rmX4_setStick : Room := { frames := 1, cells := 0, slots := 0, locals := 25 }
def wX4_set_b60 (Q : hG → Int32 → Prop) (v0 : Nat) (v1 : Int32) (v2 : Int32) (s0 : Int32) (G : hG) : Prop :=
  (s0 = 0 → (hcl G v0 0 ∧ (wX4_fails (fun G23 z24 => Q G23 z24) v0 (1 : Int32) G))) ∧ (¬ s0 = 0 → (hcl G v0 0 ∧ (wX4_save (fun G3 => hcl G3 v0 0 ∧ hlet (hR G3 v0 0) fun y9 => ∃ a10, y9 = some a10 ∧ (hcl G3 a10 101 ∧ vp_in ((6 : Int32) + v1) (hN G3 a10) ∧ (hlet (((hJ G3 a10 (Int32.toNatClampNeg ((6 : Int32) + v1)))).toInt32) fun x13 => hcl G3 v0 0 ∧ hlet (hR G3 v0 0) fun y16 => ∃ a17, y16 = some a17 ∧ (hC G3 a17 = some (101, true) ∧ vp_in ((6 : Int32) + v1) (hN G3 a17) ∧ hlet (hsJ G3 a17 (Int32.toNatClampNeg ((6 : Int32) + v1)) ((v2).toInt64)) fun G20 => Q G20 x13)))) v0 G)))
def wX4_set_b59 (Q : hG → Int32 → Prop) (v0 : Nat) (v1 : Int32) (v2 : Int32) (G : hG) : Prop :=
  wX4_set_b60 Q v0 v1 v2 (0 : Int32) G
def wX4_set (Q : hG → Int32 → Prop) (v0 : Nat) (v1 : Int32) (v2 : Int32) (G : hG) : Prop :=
  hC G v0 = some (0, true) ∧ hlet (hsI G v0 4 (0 : Int32)) fun G2 => (v1 = 0 → (wX4_in (fun G19 z20 => wX4_set_b60 Q v0 v1 v2 z20 G19) ((v2).toInt64) (0 : Int64) (12 : Int64) G2)) ∧ (¬ v1 = 0 → ((v1 = (1 : Int32) → (wX4_in (fun G14 z15 => wX4_set_b60 Q v0 v1 v2 z15 G14) ((v2).toInt64) (1 : Int64) (9 : Int64) G2)) ∧ (¬ v1 = (1 : Int32) → ((v1 = (2 : Int32) → (wX4_in (fun G8 z9 => (z9 = 0 → (wX4_set_b59 Q v0 v1 v2 G8)) ∧ (¬ z9 = 0 → (wX4_set_b60 Q v0 v1 v2 (1 : Int32) G8))) ((v2).toInt64) (1 : Int64) (5 : Int64) G2)) ∧ (¬ v1 = (2 : Int32) → (wX4_set_b59 Q v0 v1 v2 G2))))))
abbrev rmX4_set : Room := { frames := 1, cells := 0, slots := 0, locals := 25 }
def wX4_findBoth_b54 (Q : hG → Int32 → Prop) (r6 : Nat → Int32 → Int32 → Int32 → Int64 → Int64 → Int32 → Int32 → hG → Prop) (v0 : Nat) (v1 : Int32) (v2 : Int32) (v3 : Int32) (v4 : Int64) (v6 : Int64) (v9 : Int32) (s0 : Int32) (G : hG) : Prop :=
  r6 v0 v1 v2 v3 v4 v6 s0 (v9 + (1 : Int32)) G
def wX4_findBoth_b53 (Q : hG → Int32 → Prop) (r6 : Nat → Int32 → Int32 → Int32 → Int64 → Int64 → Int32 → Int32 → hG → Prop) (v0 : Nat) (v1 : Int32) (v2 : Int32) (v3 : Int32) (v4 : Int64) (v6 : Int64) (v9 : Int32) (G : hG) : Prop :=
  wX4_findBoth_b54 Q r6 v0 v1 v2 v3 v4 v6 v9 (-1 : Int32) G
def wX4_findBoth_b62 (Q : hG → Int32 → Prop) (v8 : Int32) (G : hG) : Prop :=
  Q G v8
def wX4_findBoth_b6 (Q : hG → Int32 → Prop) (r6 : Nat → Int32 → Int32 → Int32 → Int64 → Int64 → Int32 → Int32 → hG → Prop) (v0 : Nat) (v1 : Int32) (v2 : Int32) (v3 : Int32) (v4 : Int64) (v6 : Int64) (v8 : Int32) (v9 : Int32) (G : hG) : Prop :=
  (v3 ≤ v9 → (wX4_findBoth_b62 Q v8 G)) ∧ (¬ v3 ≤ v9 → ((v8 = (-1 : Int32) → (hcl G v0 0 ∧ hlet (hR G v0 0) fun y4 => ∃ a5, y4 = some a5 ∧ (hcl G a5 101 ∧ vp_in (v1 + v9) (hN G a5) ∧ (((hJ G a5 (Int32.toNatClampNeg (v1 + v9))) = v4 → (hcl G v0 0 ∧ hlet (hR G v0 0) fun y10 => ∃ a11, y10 = some a11 ∧ (hcl G a11 101 ∧ vp_in (v2 + v9) (hN G a11) ∧ (((hJ G a11 (Int32.toNatClampNeg (v2 + v9))) = v6 → (wX4_findBoth_b54 Q r6 v0 v1 v2 v3 v4 v6 v9 v9 G)) ∧ (¬ (hJ G a11 (Int32.toNatClampNeg (v2 + v9))) = v6 → (wX4_findBoth_b53 Q r6 v0 v1 v2 v3 v4 v6 v9 G)))))) ∧ (¬ (hJ G a5 (Int32.toNatClampNeg (v1 + v9))) = v4 → (wX4_findBoth_b53 Q r6 v0 v1 v2 v3 v4 v6 v9 G)))))) ∧ (¬ v8 = (-1 : Int32) → (wX4_findBoth_b62 Q v8 G))))
def wX4_findBoth_l6 (Q : hG → Int32 → Prop) (n : Nat) : Nat → Int32 → Int32 → Int32 → Int64 → Int64 → Int32 → Int32 → hG → Prop := Nat.rec (motive := fun _ => Nat → Int32 → Int32 → Int32 → Int64 → Int64 → Int32 → Int32 → hG → Prop) (fun _ _ _ _ _ _ _ _ _ => False) (fun _ ih => wX4_findBoth_b6 Q ih) n
def wX4_findBoth (Q : hG → Int32 → Prop) (v0 : Nat) (v1 : Int32) (v2 : Int32) (v3 : Int32) (v4 : Int64) (v6 : Int64) (G : hG) : Prop :=
  ∃ n, wX4_findBoth_l6 Q n v0 v1 v2 v3 v4 v6 (-1 : Int32) (0 : Int32) G
abbrev rmX4_findBoth : Room := { frames := 0, cells := 0, slots := 0, locals := 0 }
def wX4_isBanned_b26 (Q : hG → Int32 → Prop) (s0 : Int32) (G : hG) : Prop :=
  hFt .boolean s0 ∧ Q G s0
def wX4_isBanned (Q : hG → Int32 → Prop) (v0 : Nat) (v1 : Int64) (v3 : Int64) (G : hG) : Prop :=
  hcl G v0 0 ∧ (wX4_many (fun G1 z2 => hcl G1 v0 0 ∧ (wX4_findBoth (fun G7 z8 => (z8 = (-1 : Int32) → (wX4_isBanned_b26 Q (0 : Int32) G7)) ∧ (¬ z8 = (-1 : Int32) → (wX4_isBanned_b26 Q (1 : Int32) G7))) v0 (157 : Int32) (181 : Int32) z2 v1 v3 G1)) v0 (3 : Int32) G)
abbrev rmX4_isBanned : Room := { frames := 1, cells := 0, slots := 0, locals := 29 }
def wX4_learned_b153 (Q : hG → Int32 → Prop) (r5 : Nat → Int64 → Int32 → Int32 → hG → Prop) (v0 : Nat) (v1 : Int64) (v4 : Int32) (s0 : Int32) (G : hG) : Prop :=
  r5 v0 v1 s0 (v4 + (1 : Int32)) G
def wX4_learned_b147 (Q : hG → Int32 → Prop) (r5 : Nat → Int64 → Int32 → Int32 → hG → Prop) (v0 : Nat) (v1 : Int64) (v4 : Int32) (G : hG) : Prop :=
  wX4_learned_b153 Q r5 v0 v1 v4 v4 G
def wX4_learned_b152 (Q : hG → Int32 → Prop) (r5 : Nat → Int64 → Int32 → Int32 → hG → Prop) (v0 : Nat) (v1 : Int64) (v3 : Int32) (v4 : Int32) (G : hG) : Prop :=
  wX4_learned_b153 Q r5 v0 v1 v4 v3 G
def wX4_learned_b110 (Q : hG → Int32 → Prop) (r5 : Nat → Int64 → Int32 → Int32 → hG → Prop) (v0 : Nat) (v1 : Int64) (v3 : Int32) (v4 : Int32) (s0 : Int32) (G : hG) : Prop :=
  (s0 = 0 → (wX4_learned_b152 Q r5 v0 v1 v3 v4 G)) ∧ (¬ s0 = 0 → ((v3 = (-1 : Int32) → (wX4_learned_b147 Q r5 v0 v1 v4 G)) ∧ (¬ v3 = (-1 : Int32) → (hcl G v0 0 ∧ hlet (hR G v0 0) fun y5 => ∃ a6, y5 = some a6 ∧ (hcl G a6 101 ∧ vp_in ((133 : Int32) + v4) (hN G a6) ∧ (hcl G v0 0 ∧ hlet (hR G v0 0) fun y10 => ∃ a11, y10 = some a11 ∧ (hcl G a11 101 ∧ vp_in ((133 : Int32) + v3) (hN G a11) ∧ (((hJ G a6 (Int32.toNatClampNeg ((133 : Int32) + v4))) ≤ (hJ G a11 (Int32.toNatClampNeg ((133 : Int32) + v3))) → (wX4_learned_b152 Q r5 v0 v1 v3 v4 G)) ∧ (¬ (hJ G a6 (Int32.toNatClampNeg ((133 : Int32) + v4))) ≤ (hJ G a11 (Int32.toNatClampNeg ((133 : Int32) + v3))) → (wX4_learned_b147 Q r5 v0 v1 v4 G))))))))))
def wX4_learned_b105 (Q : hG → Int32 → Prop) (r5 : Nat → Int64 → Int32 → Int32 → hG → Prop) (v0 : Nat) (v1 : Int64) (v3 : Int32) (v4 : Int32) (G : hG) : Prop :=
  wX4_learned_b110 Q r5 v0 v1 v3 v4 (1 : Int32) G
def wX4_learned_b109 (Q : hG → Int32 → Prop) (r5 : Nat → Int64 → Int32 → Int32 → hG → Prop) (v0 : Nat) (v1 : Int64) (v3 : Int32) (v4 : Int32) (G : hG) : Prop :=
  wX4_learned_b110 Q r5 v0 v1 v3 v4 (0 : Int32) G
def wX4_learned_b79 (Q : hG → Int32 → Prop) (r5 : Nat → Int64 → Int32 → Int32 → hG → Prop) (v0 : Nat) (v1 : Int64) (v3 : Int32) (v4 : Int32) (v5 : Int64) (s0 : Int32) (G : hG) : Prop :=
  (s0 = 0 → (wX4_learned_b109 Q r5 v0 v1 v3 v4 G)) ∧ (¬ s0 = 0 → (hcl G v0 0 ∧ (wX4_place (fun G3 z4 => (z4 = (-1 : Int32) → (hcl G3 v0 0 ∧ (wX4_isName (fun G10 z11 => (z11 = 0 → (wX4_learned_b109 Q r5 v0 v1 v3 v4 G10)) ∧ (¬ z11 = 0 → (wX4_learned_b105 Q r5 v0 v1 v3 v4 G10))) v0 v5 G3))) ∧ (¬ z4 = (-1 : Int32) → (wX4_learned_b105 Q r5 v0 v1 v3 v4 G3))) v0 v5 G)))
def wX4_learned_b78 (Q : hG → Int32 → Prop) (r5 : Nat → Int64 → Int32 → Int32 → hG → Prop) (v0 : Nat) (v1 : Int64) (v3 : Int32) (v4 : Int32) (v5 : Int64) (G : hG) : Prop :=
  wX4_learned_b79 Q r5 v0 v1 v3 v4 v5 (0 : Int32) G
def wX4_learned_b5 (Q : hG → Int32 → Prop) (r5 : Nat → Int64 → Int32 → Int32 → hG → Prop) (v0 : Nat) (v1 : Int64) (v3 : Int32) (v4 : Int32) (G : hG) : Prop :=
  hcl G v0 0 ∧ (wX4_many (fun G1 z2 => (z2 ≤ v4 → (Q G1 v3)) ∧ (¬ z2 ≤ v4 → (hcl G1 v0 0 ∧ hlet (hR G1 v0 0) fun y9 => ∃ a10, y9 = some a10 ∧ (hcl G1 a10 101 ∧ vp_in ((109 : Int32) + v4) (hN G1 a10) ∧ (hlet (hJ G1 a10 (Int32.toNatClampNeg ((109 : Int32) + v4))) fun x13 => hcl G1 v0 0 ∧ hlet (hR G1 v0 0) fun y16 => ∃ a17, y16 = some a17 ∧ (hcl G1 a17 101 ∧ vp_in ((85 : Int32) + v4) (hN G1 a17) ∧ (((hJ G1 a17 (Int32.toNatClampNeg ((85 : Int32) + v4))) = v1 → (hcl G1 v0 0 ∧ hlet (hR G1 v0 0) fun y22 => ∃ a23, y22 = some a23 ∧ (hcl G1 a23 101 ∧ vp_in ((133 : Int32) + v4) (hN G1 a23) ∧ (hcl G1 v0 0 ∧ hlet (hR G1 v0 0) fun y27 => ∃ a28, y27 = some a28 ∧ (hcl G1 a28 101 ∧ vp_in (7 : Int32) (hN G1 a28) ∧ (((hJ G1 a23 (Int32.toNatClampNeg ((133 : Int32) + v4))) < (hJ G1 a28 (Int32.toNatClampNeg (7 : Int32))) → (wX4_learned_b78 Q r5 v0 v1 v3 v4 x13 G1)) ∧ (¬ (hJ G1 a23 (Int32.toNatClampNeg ((133 : Int32) + v4))) < (hJ G1 a28 (Int32.toNatClampNeg (7 : Int32))) → (hcl G1 v0 0 ∧ (wX4_isBanned (fun G32 z33 => (z33 = 0 → (wX4_learned_b79 Q r5 v0 v1 v3 v4 x13 (1 : Int32) G32)) ∧ (¬ z33 = 0 → (wX4_learned_b78 Q r5 v0 v1 v3 v4 x13 G32))) v0 v1 x13 G1))))))))) ∧ (¬ (hJ G1 a17 (Int32.toNatClampNeg ((85 : Int32) + v4))) = v1 → (wX4_learned_b78 Q r5 v0 v1 v3 v4 x13 G1))))))))) v0 (2 : Int32) G)
def wX4_learned_l5 (Q : hG → Int32 → Prop) (n : Nat) : Nat → Int64 → Int32 → Int32 → hG → Prop := Nat.rec (motive := fun _ => Nat → Int64 → Int32 → Int32 → hG → Prop) (fun _ _ _ _ _ => False) (fun _ ih => wX4_learned_b5 Q ih) n
def wX4_learned (Q : hG → Int32 → Prop) (v0 : Nat) (v1 : Int64) (G : hG) : Prop :=
  ∃ n, wX4_learned_l5 Q n v0 v1 (-1 : Int32) (0 : Int32) G
abbrev rmX4_learned : Room := { frames := 2, cells := 0, slots := 0, locals := 53 }
def wX4_lays_b13 (Q : hG → Int32 → Prop) (r13 : Nat → Int32 → Int64 → Int32 → hG → Prop) (v2 : Nat) (v3 : Int32) (v4 : Int64) (v6 : Int32) (G : hG) : Prop :=
  (v6 < 0 → (Q G v3)) ∧ (¬ v6 < 0 → (hC G v2 = some (100, true) ∧ vp_in v6 (hN G v2) ∧ hlet (hsI G v2 (Int32.toNatClampNeg v6) ((((v4 &&& (31 : Int64))).toInt32) - (1 : Int32))) fun G4 => r13 v2 v3 (v4 >>> (((5 : Int32)).toInt64 &&& 63)) (v6 + (-1 : Int32)) G4))
def wX4_lays_l13 (Q : hG → Int32 → Prop) (n : Nat) : Nat → Int32 → Int64 → Int32 → hG → Prop := Nat.rec (motive := fun _ => Nat → Int32 → Int64 → Int32 → hG → Prop) (fun _ _ _ _ _ => False) (fun _ ih => wX4_lays_b13 Q ih) n
def wX4_lays (Q : hG → Int32 → Prop) (v0 : Int64) (v2 : Nat) (G : hG) : Prop :=
  wX4_letters (fun G1 z2 => ∃ n, wX4_lays_l13 Q n v2 z2 v0 (z2 - (1 : Int32)) G1) v0 G
abbrev rmX4_lays : Room := { frames := 1, cells := 0, slots := 0, locals := 24 }
def wX4_gone_b47 (Q : hG → Int32 → Prop) (s0 : Int32) (G : hG) : Prop :=
  Q G s0
def wX4_gone_b46 (Q : hG → Int32 → Prop)  (G : hG) : Prop :=
  wX4_gone_b47 Q (3 : Int32) G
def wX4_gone (Q : hG → Int32 → Prop) (v0 : Nat) (v1 : Int32) (G : hG) : Prop :=
  hcl G v0 0 ∧ hlet (hR G v0 0) fun y2 => hcl G v0 0 ∧ hlet (hR G v0 6) fun y4 => ∃ a5, y4 = some a5 ∧ (hcl G a5 100 ∧ vp_in v1 (hN G a5) ∧ (∃ a8, y2 = some a8 ∧ (hcl G a8 101 ∧ vp_in ((9 : Int32) + (hI G a5 (Int32.toNatClampNeg v1))) (hN G a8) ∧ (((hJ G a8 (Int32.toNatClampNeg ((9 : Int32) + (hI G a5 (Int32.toNatClampNeg v1))))) = (2 : Int64) → ((v1 ≤ 0 → (wX4_gone_b46 Q G)) ∧ (¬ v1 ≤ 0 → (hcl G v0 0 ∧ hlet (hR G v0 6) fun y14 => ∃ a15, y14 = some a15 ∧ (hcl G a15 100 ∧ vp_in v1 (hN G a15) ∧ (hcl G v0 0 ∧ hlet (hR G v0 6) fun y19 => ∃ a20, y19 = some a20 ∧ (hcl G a20 100 ∧ vp_in (v1 - (1 : Int32)) (hN G a20) ∧ (((hI G a15 (Int32.toNatClampNeg v1)) = (hI G a20 (Int32.toNatClampNeg (v1 - (1 : Int32)))) → (wX4_gone_b47 Q (1 : Int32) G)) ∧ (¬ (hI G a15 (Int32.toNatClampNeg v1)) = (hI G a20 (Int32.toNatClampNeg (v1 - (1 : Int32)))) → (wX4_gone_b46 Q G)))))))))) ∧ (¬ (hJ G a8 (Int32.toNatClampNeg ((9 : Int32) + (hI G a5 (Int32.toNatClampNeg v1))))) = (2 : Int64) → (wX4_gone_b46 Q G))))))
abbrev rmX4_gone : Room := { frames := 0, cells := 0, slots := 0, locals := 0 }
def wX4_less_b10 (Q : hG → Int32 → Prop) (s0 : Int32) (G : hG) : Prop :=
  Q G s0
def wX4_less (Q : hG → Int32 → Prop) (v0 : Int32) (v1 : Int32) (G : hG) : Prop :=
  (v1 ≤ v0 → (wX4_less_b10 Q v1 G)) ∧ (¬ v1 ≤ v0 → (wX4_less_b10 Q v0 G))
abbrev rmX4_less : Room := { frames := 0, cells := 0, slots := 0, locals := 0 }
def wX4_come_b24 (Q : hG → Int32 → Prop) (s0 : Int32) (G : hG) : Prop :=
  Q G s0
def wX4_come (Q : hG → Int32 → Prop) (v0 : Nat) (v1 : Int32) (G : hG) : Prop :=
  hcl G v0 0 ∧ hlet (hR G v0 0) fun y2 => hcl G v0 0 ∧ hlet (hR G v0 7) fun y4 => ∃ a5, y4 = some a5 ∧ (hcl G a5 100 ∧ vp_in v1 (hN G a5) ∧ (∃ a8, y2 = some a8 ∧ (hcl G a8 101 ∧ vp_in ((9 : Int32) + (hI G a5 (Int32.toNatClampNeg v1))) (hN G a8) ∧ (((hJ G a8 (Int32.toNatClampNeg ((9 : Int32) + (hI G a5 (Int32.toNatClampNeg v1))))) = (1 : Int64) → (wX4_come_b24 Q (1 : Int32) G)) ∧ (¬ (hJ G a8 (Int32.toNatClampNeg ((9 : Int32) + (hI G a5 (Int32.toNatClampNeg v1))))) = (1 : Int64) → (wX4_come_b24 Q (3 : Int32) G))))))
abbrev rmX4_come : Room := { frames := 0, cells := 0, slots := 0, locals := 0 }
def wX4_areBeside_b72 (Q : hG → Int32 → Prop) (s0 : Int32) (G : hG) : Prop :=
  hFt .boolean s0 ∧ Q G s0
def wX4_areBeside_b67 (Q : hG → Int32 → Prop)  (G : hG) : Prop :=
  wX4_areBeside_b72 Q (1 : Int32) G
def wX4_areBeside_b140 (Q : hG → Int32 → Prop) (s0 : Int32) (G : hG) : Prop :=
  hFt .boolean s0 ∧ Q G s0
def wX4_areBeside_b135 (Q : hG → Int32 → Prop)  (G : hG) : Prop :=
  wX4_areBeside_b140 Q (1 : Int32) G
def wX4_areBeside_b139 (Q : hG → Int32 → Prop)  (G : hG) : Prop :=
  wX4_areBeside_b140 Q (0 : Int32) G
def wX4_areBeside_b119 (Q : hG → Int32 → Prop) (v7 : Int32) (v8 : Int32) (G : hG) : Prop :=
  (v7 = v8 → (wX4_areBeside_b135 Q G)) ∧ (¬ v7 = v8 → ((v7 = (v8 + (1 : Int32)) → (wX4_areBeside_b135 Q G)) ∧ (¬ v7 = (v8 + (1 : Int32)) → (wX4_areBeside_b139 Q G))))
def wX4_areBeside_b101 (Q : hG → Int32 → Prop) (v3 : Int32) (v4 : Int32) (v7 : Int32) (s0 : Int32) (G : hG) : Prop :=
  ((v3 - v4) = (1 : Int32) → (wX4_areBeside_b119 Q v7 s0 G)) ∧ (¬ (v3 - v4) = (1 : Int32) → (((v4 - v3) = (1 : Int32) → (wX4_areBeside_b119 Q v7 s0 G)) ∧ (¬ (v4 - v3) = (1 : Int32) → (wX4_areBeside_b139 Q G))))
def wX4_areBeside_b86 (Q : hG → Int32 → Prop) (v3 : Int32) (v4 : Int32) (v5 : Int32) (v6 : Int32) (s0 : Int32) (G : hG) : Prop :=
  (v4 ≤ v3 → (wX4_areBeside_b101 Q v3 v4 s0 v5 G)) ∧ (¬ v4 ≤ v3 → (wX4_areBeside_b101 Q v3 v4 s0 v6 G))
def wX4_areBeside (Q : hG → Int32 → Prop) (v0 : Nat) (v1 : Int32) (v2 : Int32) (G : hG) : Prop :=
  hcl G v0 0 ∧ hlet (hR G v0 5) fun y2 => ∃ a3, y2 = some a3 ∧ (hcl G a3 100 ∧ vp_in v1 (hN G a3) ∧ (hlet ((hI G a3 (Int32.toNatClampNeg v1)) / (10 : Int32)) fun x6 => hcl G v0 0 ∧ hlet (hR G v0 5) fun y9 => ∃ a10, y9 = some a10 ∧ (hcl G a10 100 ∧ vp_in v2 (hN G a10) ∧ (hlet ((hI G a10 (Int32.toNatClampNeg v2)) / (10 : Int32)) fun x13 => hcl G v0 0 ∧ hlet (hR G v0 5) fun y16 => ∃ a17, y16 = some a17 ∧ (hcl G a17 100 ∧ vp_in v1 (hN G a17) ∧ (hlet ((hI G a17 (Int32.toNatClampNeg v1)) - (hI G a17 (Int32.toNatClampNeg v1)) / (10 : Int32) * (10 : Int32)) fun x20 => hcl G v0 0 ∧ hlet (hR G v0 5) fun y23 => ∃ a24, y23 = some a24 ∧ (hcl G a24 100 ∧ vp_in v2 (hN G a24) ∧ (hlet ((hI G a24 (Int32.toNatClampNeg v2)) - (hI G a24 (Int32.toNatClampNeg v2)) / (10 : Int32) * (10 : Int32)) fun x27 => (x6 = x13 → (((x20 - x27) = (1 : Int32) → (wX4_areBeside_b67 Q G)) ∧ (¬ (x20 - x27) = (1 : Int32) → (((x27 - x20) = (1 : Int32) → (wX4_areBeside_b67 Q G)) ∧ (¬ (x27 - x20) = (1 : Int32) → (wX4_areBeside_b72 Q (0 : Int32) G)))))) ∧ (¬ x6 = x13 → ((x13 ≤ x6 → (wX4_areBeside_b86 Q x6 x13 x20 x27 x27 G)) ∧ (¬ x13 ≤ x6 → (wX4_areBeside_b86 Q x6 x13 x20 x27 x20 G))))))))))))
abbrev rmX4_areBeside : Room := { frames := 0, cells := 0, slots := 0, locals := 0 }
def wX4_hand_b18 (Q : hG → Int32 → Prop) (s0 : Int32) (G : hG) : Prop :=
  Q G s0
def wX4_hand (Q : hG → Int32 → Prop) (v0 : Nat) (v1 : Int32) (G : hG) : Prop :=
  hcl G v0 0 ∧ hlet (hR G v0 5) fun y2 => ∃ a3, y2 = some a3 ∧ (hcl G a3 100 ∧ vp_in v1 (hN G a3) ∧ (((5 : Int32) ≤ ((hI G a3 (Int32.toNatClampNeg v1)) - (hI G a3 (Int32.toNatClampNeg v1)) / (10 : Int32) * (10 : Int32)) → (wX4_hand_b18 Q (1 : Int32) G)) ∧ (¬ (5 : Int32) ≤ ((hI G a3 (Int32.toNatClampNeg v1)) - (hI G a3 (Int32.toNatClampNeg v1)) / (10 : Int32) * (10 : Int32)) → (wX4_hand_b18 Q (0 : Int32) G))))
abbrev rmX4_hand : Room := { frames := 0, cells := 0, slots := 0, locals := 0 }
def wX4_far_b328 (Q : hG → Int32 → Prop) (r33 : Nat → Int32 → Int32 → Int32 → Int32 → hG → Prop) (v0 : Nat) (v5 : Int32) (v6 : Int32) (v7 : Int32) (v8 : Int32) (v9 : Int32) (G : hG) : Prop :=
  hcl G v0 0 ∧ hlet (hR G v0 8) fun y2 => ∃ a3, y2 = some a3 ∧ (hC G a3 = some (100, true) ∧ vp_in (((9 : Int32) * v7) + v8) (hN G a3) ∧ hlet (hsI G a3 (Int32.toNatClampNeg (((9 : Int32) * v7) + v8)) v9) fun G6 => r33 v0 v5 v6 v7 (v8 + (1 : Int32)) G6)
def wX4_far_b322 (Q : hG → Int32 → Prop) (r33 : Nat → Int32 → Int32 → Int32 → Int32 → hG → Prop) (v0 : Nat) (v5 : Int32) (v6 : Int32) (v7 : Int32) (v8 : Int32) (s0 : Int32) (s1 : Int32) (s2 : Int32) (G : hG) : Prop :=
  wX4_less (fun G1 z2 => wX4_far_b328 Q r33 v0 v5 v6 v7 v8 z2 G1) s0 (s1 + s2) G
def wX4_far_b215 (Q : hG → Int32 → Prop) (r33 : Nat → Int32 → Int32 → Int32 → Int32 → hG → Prop) (v0 : Nat) (v5 : Int32) (v6 : Int32) (v7 : Int32) (v8 : Int32) (v9 : Int32) (G : hG) : Prop :=
  (v7 ≤ (1 : Int32) → (wX4_far_b328 Q r33 v0 v5 v6 v7 v8 v9 G)) ∧ (¬ v7 ≤ (1 : Int32) → ((v8 ≤ (1 : Int32) → (wX4_far_b328 Q r33 v0 v5 v6 v7 v8 v9 G)) ∧ (¬ v8 ≤ (1 : Int32) → (hcl G v0 0 ∧ hlet (hR G v0 6) fun y4 => ∃ a5, y4 = some a5 ∧ (hcl G a5 100 ∧ vp_in (v7 - (1 : Int32)) (hN G a5) ∧ (hcl G v0 0 ∧ hlet (hR G v0 7) fun y9 => ∃ a10, y9 = some a10 ∧ (hcl G a10 100 ∧ vp_in (v8 - (2 : Int32)) (hN G a10) ∧ (((hI G a5 (Int32.toNatClampNeg (v7 - (1 : Int32)))) = (hI G a10 (Int32.toNatClampNeg (v8 - (2 : Int32)))) → (hcl G v0 0 ∧ hlet (hR G v0 6) fun y15 => ∃ a16, y15 = some a16 ∧ (hcl G a16 100 ∧ vp_in (v7 - (2 : Int32)) (hN G a16) ∧ (hcl G v0 0 ∧ hlet (hR G v0 7) fun y20 => ∃ a21, y20 = some a21 ∧ (hcl G a21 100 ∧ vp_in (v8 - (1 : Int32)) (hN G a21) ∧ (((hI G a16 (Int32.toNatClampNeg (v7 - (2 : Int32)))) = (hI G a21 (Int32.toNatClampNeg (v8 - (1 : Int32)))) → (hcl G v0 0 ∧ hlet (hR G v0 8) fun y26 => ∃ a27, y26 = some a27 ∧ (hcl G a27 100 ∧ vp_in ((((9 : Int32) * (v7 - (2 : Int32))) + v8) - (2 : Int32)) (hN G a27) ∧ (hcl G v0 0 ∧ hlet (hR G v0 6) fun y31 => ∃ a32, y31 = some a32 ∧ (hcl G a32 100 ∧ vp_in (v7 - (1 : Int32)) (hN G a32) ∧ (hcl G v0 0 ∧ (wX4_hand (fun G35 z36 => hcl G35 v0 0 ∧ hlet (hR G35 v0 6) fun y42 => ∃ a43, y42 = some a43 ∧ (hcl G35 a43 100 ∧ vp_in (v7 - (2 : Int32)) (hN G35 a43) ∧ (hcl G35 v0 0 ∧ (wX4_hand (fun G46 z47 => (z36 = z47 → (wX4_far_b322 Q r33 v0 v5 v6 v7 v8 v9 (hI G a27 (Int32.toNatClampNeg ((((9 : Int32) * (v7 - (2 : Int32))) + v8) - (2 : Int32)))) (3 : Int32) G46)) ∧ (¬ z36 = z47 → (wX4_far_b322 Q r33 v0 v5 v6 v7 v8 v9 (hI G a27 (Int32.toNatClampNeg ((((9 : Int32) * (v7 - (2 : Int32))) + v8) - (2 : Int32)))) (1 : Int32) G46))) v0 (hI G35 a43 (Int32.toNatClampNeg (v7 - (2 : Int32)))) G35)))) v0 (hI G a32 (Int32.toNatClampNeg (v7 - (1 : Int32)))) G))))))) ∧ (¬ (hI G a16 (Int32.toNatClampNeg (v7 - (2 : Int32)))) = (hI G a21 (Int32.toNatClampNeg (v8 - (1 : Int32)))) → (wX4_far_b328 Q r33 v0 v5 v6 v7 v8 v9 G)))))))) ∧ (¬ (hI G a5 (Int32.toNatClampNeg (v7 - (1 : Int32)))) = (hI G a10 (Int32.toNatClampNeg (v8 - (2 : Int32)))) → (wX4_far_b328 Q r33 v0 v5 v6 v7 v8 v9 G))))))))))
def wX4_far_b209 (Q : hG → Int32 → Prop) (r33 : Nat → Int32 → Int32 → Int32 → Int32 → hG → Prop) (v0 : Nat) (v5 : Int32) (v6 : Int32) (v7 : Int32) (v8 : Int32) (s0 : Int32) (s1 : Int32) (s2 : Int32) (G : hG) : Prop :=
  wX4_less (fun G1 z2 => wX4_far_b215 Q r33 v0 v5 v6 v7 v8 z2 G1) s0 (s1 + s2) G
def wX4_far_b131 (Q : hG → Int32 → Prop) (r33 : Nat → Int32 → Int32 → Int32 → Int32 → hG → Prop) (v0 : Nat) (v5 : Int32) (v6 : Int32) (v7 : Int32) (v8 : Int32) (v9 : Int32) (G : hG) : Prop :=
  (v7 ≤ 0 → (wX4_far_b215 Q r33 v0 v5 v6 v7 v8 v9 G)) ∧ (¬ v7 ≤ 0 → ((v8 ≤ 0 → (wX4_far_b215 Q r33 v0 v5 v6 v7 v8 v9 G)) ∧ (¬ v8 ≤ 0 → (hcl G v0 0 ∧ hlet (hR G v0 6) fun y4 => ∃ a5, y4 = some a5 ∧ (hcl G a5 100 ∧ vp_in (v7 - (1 : Int32)) (hN G a5) ∧ (hcl G v0 0 ∧ hlet (hR G v0 7) fun y10 => ∃ a11, y10 = some a11 ∧ (hcl G a11 100 ∧ vp_in (v8 - (1 : Int32)) (hN G a11) ∧ (hlet (hI G a11 (Int32.toNatClampNeg (v8 - (1 : Int32)))) fun x14 => hcl G v0 0 ∧ hlet (hR G v0 8) fun y17 => ∃ a18, y17 = some a18 ∧ (hcl G a18 100 ∧ vp_in ((((9 : Int32) * (v7 - (1 : Int32))) + v8) - (1 : Int32)) (hN G a18) ∧ (((hI G a5 (Int32.toNatClampNeg (v7 - (1 : Int32)))) = x14 → (wX4_far_b209 Q r33 v0 v5 v6 v7 v8 v9 (hI G a18 (Int32.toNatClampNeg ((((9 : Int32) * (v7 - (1 : Int32))) + v8) - (1 : Int32)))) (0 : Int32) G)) ∧ (¬ (hI G a5 (Int32.toNatClampNeg (v7 - (1 : Int32)))) = x14 → (hcl G v0 0 ∧ (wX4_areBeside (fun G22 z23 => (z23 = 0 → (wX4_far_b209 Q r33 v0 v5 v6 v7 v8 v9 (hI G a18 (Int32.toNatClampNeg ((((9 : Int32) * (v7 - (1 : Int32))) + v8) - (1 : Int32)))) (4 : Int32) G22)) ∧ (¬ z23 = 0 → (wX4_far_b209 Q r33 v0 v5 v6 v7 v8 v9 (hI G a18 (Int32.toNatClampNeg ((((9 : Int32) * (v7 - (1 : Int32))) + v8) - (1 : Int32)))) (2 : Int32) G22))) v0 (hI G a5 (Int32.toNatClampNeg (v7 - (1 : Int32)))) x14 G)))))))))))))
def wX4_far_b95 (Q : hG → Int32 → Prop) (r33 : Nat → Int32 → Int32 → Int32 → Int32 → hG → Prop) (v0 : Nat) (v5 : Int32) (v6 : Int32) (v7 : Int32) (v8 : Int32) (v9 : Int32) (G : hG) : Prop :=
  (v8 ≤ 0 → (wX4_far_b131 Q r33 v0 v5 v6 v7 v8 v9 G)) ∧ (¬ v8 ≤ 0 → (hcl G v0 0 ∧ hlet (hR G v0 8) fun y3 => ∃ a4, y3 = some a4 ∧ (hcl G a4 100 ∧ vp_in ((((9 : Int32) * v7) + v8) - (1 : Int32)) (hN G a4) ∧ (hcl G v0 0 ∧ (wX4_come (fun G7 z8 => wX4_less (fun G13 z14 => wX4_far_b131 Q r33 v0 v5 v6 v7 v8 z14 G13) v9 ((hI G a4 (Int32.toNatClampNeg ((((9 : Int32) * v7) + v8) - (1 : Int32)))) + z8) G7) v0 (v8 - (1 : Int32)) G)))))
def wX4_far_b57 (Q : hG → Int32 → Prop) (r33 : Nat → Int32 → Int32 → Int32 → Int32 → hG → Prop) (v0 : Nat) (v5 : Int32) (v6 : Int32) (v7 : Int32) (v8 : Int32) (s0 : Int32) (G : hG) : Prop :=
  (v7 ≤ 0 → (wX4_far_b95 Q r33 v0 v5 v6 v7 v8 s0 G)) ∧ (¬ v7 ≤ 0 → (hcl G v0 0 ∧ hlet (hR G v0 8) fun y4 => ∃ a5, y4 = some a5 ∧ (hcl G a5 100 ∧ vp_in (((9 : Int32) * (v7 - (1 : Int32))) + v8) (hN G a5) ∧ (hcl G v0 0 ∧ (wX4_gone (fun G8 z9 => wX4_less (fun G14 z15 => wX4_far_b95 Q r33 v0 v5 v6 v7 v8 z15 G14) s0 ((hI G a5 (Int32.toNatClampNeg (((9 : Int32) * (v7 - (1 : Int32))) + v8))) + z9) G8) v0 (v7 - (1 : Int32)) G)))))
def wX4_far_b54 (Q : hG → Int32 → Prop) (r33 : Nat → Int32 → Int32 → Int32 → Int32 → hG → Prop) (v0 : Nat) (v5 : Int32) (v6 : Int32) (v7 : Int32) (v8 : Int32) (G : hG) : Prop :=
  wX4_far_b57 Q r33 v0 v5 v6 v7 v8 (1000 : Int32) G
def wX4_far_b33 (Q : hG → Int32 → Prop) (r23 : Nat → Int32 → Int32 → Int32 → hG → Prop) (r33 : Nat → Int32 → Int32 → Int32 → Int32 → hG → Prop) (v0 : Nat) (v5 : Int32) (v6 : Int32) (v7 : Int32) (v8 : Int32) (G : hG) : Prop :=
  (v6 < v8 → (r23 v0 v5 v6 (v7 + (1 : Int32)) G)) ∧ (¬ v6 < v8 → ((v7 = 0 → ((v8 = 0 → (wX4_far_b57 Q r33 v0 v5 v6 v7 v8 (0 : Int32) G)) ∧ (¬ v8 = 0 → (wX4_far_b54 Q r33 v0 v5 v6 v7 v8 G)))) ∧ (¬ v7 = 0 → (wX4_far_b54 Q r33 v0 v5 v6 v7 v8 G))))
def wX4_far_l33 (Q : hG → Int32 → Prop) (r23 : Nat → Int32 → Int32 → Int32 → hG → Prop) (n : Nat) : Nat → Int32 → Int32 → Int32 → Int32 → hG → Prop := Nat.rec (motive := fun _ => Nat → Int32 → Int32 → Int32 → Int32 → hG → Prop) (fun _ _ _ _ _ _ => False) (fun _ ih => wX4_far_b33 Q r23 ih) n
def wX4_far_b23 (Q : hG → Int32 → Prop) (r23 : Nat → Int32 → Int32 → Int32 → hG → Prop) (v0 : Nat) (v5 : Int32) (v6 : Int32) (v7 : Int32) (G : hG) : Prop :=
  (v5 < v7 → (hcl G v0 0 ∧ hlet (hR G v0 8) fun y3 => ∃ a4, y3 = some a4 ∧ (hcl G a4 100 ∧ vp_in (((9 : Int32) * v5) + v6) (hN G a4) ∧ (Q G (hI G a4 (Int32.toNatClampNeg (((9 : Int32) * v5) + v6))))))) ∧ (¬ v5 < v7 → (∃ n, wX4_far_l33 Q r23 n v0 v5 v6 v7 (0 : Int32) G))
def wX4_far_l23 (Q : hG → Int32 → Prop) (n : Nat) : Nat → Int32 → Int32 → Int32 → hG → Prop := Nat.rec (motive := fun _ => Nat → Int32 → Int32 → Int32 → hG → Prop) (fun _ _ _ _ _ => False) (fun _ ih => wX4_far_b23 Q ih) n
def wX4_far (Q : hG → Int32 → Prop) (v0 : Nat) (v1 : Int64) (v3 : Int64) (G : hG) : Prop :=
  hcl G v0 0 ∧ hlet (hR G v0 6) fun y2 => ∃ a3, y2 = some a3 ∧ (wX4_lays (fun G4 z5 => hcl G4 v0 0 ∧ hlet (hR G4 v0 7) fun y11 => ∃ a12, y11 = some a12 ∧ (wX4_lays (fun G13 z14 => ∃ n, wX4_far_l23 Q n v0 z5 z14 (0 : Int32) G13) v3 a12 G4)) v1 a3 G)
abbrev rmX4_far : Room := { frames := 2, cells := 0, slots := 0, locals := 50 }
def wX4_isSuggested_b48 (Q : hG → Int32 → Prop) (s0 : Int32) (G : hG) : Prop :=
  hFt .boolean s0 ∧ Q G s0
def wX4_isSuggested_b47 (Q : hG → Int32 → Prop)  (G : hG) : Prop :=
  wX4_isSuggested_b48 Q (0 : Int32) G
def wX4_isSuggested (Q : hG → Int32 → Prop) (v0 : Nat) (v1 : Int64) (v3 : Int32) (G : hG) : Prop :=
  hcl G v0 0 ∧ hlet (hR G v0 0) fun y2 => ∃ a3, y2 = some a3 ∧ (hcl G a3 101 ∧ vp_in ((35 : Int32) + v3) (hN G a3) ∧ (hcl G v0 0 ∧ (wX4_far (fun G6 z7 => hcl G6 v0 0 ∧ hlet (hR G6 v0 0) fun y13 => ∃ a14, y13 = some a14 ∧ (hcl G6 a14 101 ∧ vp_in (6 : Int32) (hN G6 a14) ∧ (((hJ G6 a14 (Int32.toNatClampNeg (6 : Int32))) < ((z7).toInt64) → (wX4_isSuggested_b47 Q G6)) ∧ (¬ (hJ G6 a14 (Int32.toNatClampNeg (6 : Int32))) < ((z7).toInt64) → (hcl G6 v0 0 ∧ hlet (hR G6 v0 0) fun y19 => ∃ a20, y19 = some a20 ∧ (hcl G6 a20 101 ∧ vp_in ((35 : Int32) + v3) (hN G6 a20) ∧ (hcl G6 v0 0 ∧ (wX4_isBanned (fun G23 z24 => (z24 = 0 → (wX4_isSuggested_b48 Q (1 : Int32) G23)) ∧ (¬ z24 = 0 → (wX4_isSuggested_b47 Q G23))) v0 v1 (hJ G6 a20 (Int32.toNatClampNeg ((35 : Int32) + v3))) G6)))))))) v0 v1 (hJ G a3 (Int32.toNatClampNeg ((35 : Int32) + v3))) G)))
abbrev rmX4_isSuggested : Room := { frames := 3, cells := 0, slots := 0, locals := 81 }
def wX4_isAhead_b52 (Q : hG → Int32 → Prop) (s0 : Int32) (G : hG) : Prop :=
  hFt .boolean s0 ∧ Q G s0
def wX4_isAhead_b110 (Q : hG → Int32 → Prop) (s0 : Int32) (G : hG) : Prop :=
  hFt .boolean s0 ∧ Q G s0
def wX4_isAhead_b105 (Q : hG → Int32 → Prop)  (G : hG) : Prop :=
  wX4_isAhead_b110 Q (1 : Int32) G
def wX4_isAhead_b109 (Q : hG → Int32 → Prop)  (G : hG) : Prop :=
  wX4_isAhead_b110 Q (0 : Int32) G
def wX4_isAhead (Q : hG → Int32 → Prop) (v0 : Nat) (v1 : Int64) (v3 : Int32) (v4 : Int32) (G : hG) : Prop :=
  hcl G v0 0 ∧ hlet (hR G v0 0) fun y2 => ∃ a3, y2 = some a3 ∧ (hcl G a3 101 ∧ vp_in ((35 : Int32) + v3) (hN G a3) ∧ (hcl G v0 0 ∧ (wX4_far (fun G6 z7 => hcl G6 v0 0 ∧ hlet (hR G6 v0 0) fun y14 => ∃ a15, y14 = some a15 ∧ (hcl G6 a15 101 ∧ vp_in ((35 : Int32) + v4) (hN G6 a15) ∧ (hcl G6 v0 0 ∧ (wX4_far (fun G18 z19 => (z7 = z19 → (hcl G18 v0 0 ∧ hlet (hR G18 v0 0) fun y27 => ∃ a28, y27 = some a28 ∧ (hcl G18 a28 101 ∧ vp_in ((55 : Int32) + v3) (hN G18 a28) ∧ (hcl G18 v0 0 ∧ hlet (hR G18 v0 0) fun y32 => ∃ a33, y32 = some a33 ∧ (hcl G18 a33 101 ∧ vp_in ((55 : Int32) + v4) (hN G18 a33) ∧ (((hJ G18 a33 (Int32.toNatClampNeg ((55 : Int32) + v4))) < (hJ G18 a28 (Int32.toNatClampNeg ((55 : Int32) + v3))) → (wX4_isAhead_b105 Q G18)) ∧ (¬ (hJ G18 a33 (Int32.toNatClampNeg ((55 : Int32) + v4))) < (hJ G18 a28 (Int32.toNatClampNeg ((55 : Int32) + v3))) → (hcl G18 v0 0 ∧ hlet (hR G18 v0 0) fun y38 => ∃ a39, y38 = some a39 ∧ (hcl G18 a39 101 ∧ vp_in ((55 : Int32) + v3) (hN G18 a39) ∧ (hcl G18 v0 0 ∧ hlet (hR G18 v0 0) fun y43 => ∃ a44, y43 = some a44 ∧ (hcl G18 a44 101 ∧ vp_in ((55 : Int32) + v4) (hN G18 a44) ∧ (((hJ G18 a39 (Int32.toNatClampNeg ((55 : Int32) + v3))) = (hJ G18 a44 (Int32.toNatClampNeg ((55 : Int32) + v4))) → ((v4 ≤ v3 → (wX4_isAhead_b109 Q G18)) ∧ (¬ v4 ≤ v3 → (wX4_isAhead_b105 Q G18)))) ∧ (¬ (hJ G18 a39 (Int32.toNatClampNeg ((55 : Int32) + v3))) = (hJ G18 a44 (Int32.toNatClampNeg ((55 : Int32) + v4))) → (wX4_isAhead_b109 Q G18)))))))))))))) ∧ (¬ z7 = z19 → ((z19 ≤ z7 → (wX4_isAhead_b52 Q (0 : Int32) G18)) ∧ (¬ z19 ≤ z7 → (wX4_isAhead_b52 Q (1 : Int32) G18))))) v0 v1 (hJ G6 a15 (Int32.toNatClampNeg ((35 : Int32) + v4))) G6)))) v0 v1 (hJ G a3 (Int32.toNatClampNeg ((35 : Int32) + v3))) G)))
abbrev rmX4_isAhead : Room := { frames := 3, cells := 0, slots := 0, locals := 81 }
def wX4_nearest_b51 (Q : hG → Int32 → Prop) (r5 : Nat → Int64 → Int32 → Int32 → hG → Prop) (v0 : Nat) (v1 : Int64) (v4 : Int32) (s0 : Int32) (G : hG) : Prop :=
  r5 v0 v1 s0 (v4 + (1 : Int32)) G
def wX4_nearest_b45 (Q : hG → Int32 → Prop) (r5 : Nat → Int64 → Int32 → Int32 → hG → Prop) (v0 : Nat) (v1 : Int64) (v4 : Int32) (G : hG) : Prop :=
  wX4_nearest_b51 Q r5 v0 v1 v4 v4 G
def wX4_nearest_b50 (Q : hG → Int32 → Prop) (r5 : Nat → Int64 → Int32 → Int32 → hG → Prop) (v0 : Nat) (v1 : Int64) (v3 : Int32) (v4 : Int32) (G : hG) : Prop :=
  wX4_nearest_b51 Q r5 v0 v1 v4 v3 G
def wX4_nearest_b5 (Q : hG → Int32 → Prop) (r5 : Nat → Int64 → Int32 → Int32 → hG → Prop) (v0 : Nat) (v1 : Int64) (v3 : Int32) (v4 : Int32) (G : hG) : Prop :=
  hcl G v0 0 ∧ (wX4_many (fun G1 z2 => (z2 ≤ v4 → (Q G1 v3)) ∧ (¬ z2 ≤ v4 → (hcl G1 v0 0 ∧ (wX4_isSuggested (fun G8 z9 => (z9 = 0 → (wX4_nearest_b50 Q r5 v0 v1 v3 v4 G8)) ∧ (¬ z9 = 0 → ((v3 = (-1 : Int32) → (wX4_nearest_b45 Q r5 v0 v1 v4 G8)) ∧ (¬ v3 = (-1 : Int32) → (hcl G8 v0 0 ∧ (wX4_isAhead (fun G17 z18 => (z18 = 0 → (wX4_nearest_b50 Q r5 v0 v1 v3 v4 G17)) ∧ (¬ z18 = 0 → (wX4_nearest_b45 Q r5 v0 v1 v4 G17))) v0 v1 v4 v3 G8)))))) v0 v1 v4 G1)))) v0 (0 : Int32) G)
def wX4_nearest_l5 (Q : hG → Int32 → Prop) (n : Nat) : Nat → Int64 → Int32 → Int32 → hG → Prop := Nat.rec (motive := fun _ => Nat → Int64 → Int32 → Int32 → hG → Prop) (fun _ _ _ _ _ => False) (fun _ ih => wX4_nearest_b5 Q ih) n
def wX4_nearest (Q : hG → Int32 → Prop) (v0 : Nat) (v1 : Int64) (G : hG) : Prop :=
  ∃ n, wX4_nearest_l5 Q n v0 v1 (-1 : Int32) (0 : Int32) G
abbrev rmX4_nearest : Room := { frames := 4, cells := 0, slots := 0, locals := 107 }
def wX4_caseFor_b90 (Q : hG → Int32 → Prop) (s0 : Int32) (G : hG) : Prop :=
  Q G s0
def wX4_caseFor_b77 (Q : hG → Int32 → Prop) (v3 : Int32) (s0 : Nat) (s1 : Int64) (G : hG) : Prop :=
  hC G s0 = some (0, true) ∧ hlet (hsJ G s0 9 s1) fun G2 => (v3 = (-1 : Int32) → (wX4_caseFor_b90 Q (4 : Int32) G2)) ∧ (¬ v3 = (-1 : Int32) → (wX4_caseFor_b90 Q (3 : Int32) G2))
def wX4_caseFor (Q : hG → Int32 → Prop) (v0 : Nat) (v1 : Int64) (G : hG) : Prop :=
  hC G v0 = some (0, true) ∧ hlet (hsJ G v0 9 v1) fun G2 => hcl G2 v0 0 ∧ (wX4_place (fun G5 z6 => (z6 = (-1 : Int32) → (hcl G5 v0 0 ∧ (wX4_isName (fun G12 z13 => (z13 = 0 → (hcl G12 v0 0 ∧ (wX4_learned (fun G19 z20 => (z20 = (-1 : Int32) → (hcl G19 v0 0 ∧ (wX4_nearest (fun G27 z28 => (z28 = (-1 : Int32) → (wX4_caseFor_b77 Q z28 v0 v1 G27)) ∧ (¬ z28 = (-1 : Int32) → (hcl G27 v0 0 ∧ hlet (hR G27 v0 0) fun y36 => ∃ a37, y36 = some a37 ∧ (hcl G27 a37 101 ∧ vp_in ((35 : Int32) + z28) (hN G27 a37) ∧ (wX4_caseFor_b77 Q z28 v0 (hJ G27 a37 (Int32.toNatClampNeg ((35 : Int32) + z28))) G27))))) v0 v1 G19))) ∧ (¬ z20 = (-1 : Int32) → (hcl G19 v0 0 ∧ hlet (hR G19 v0 0) fun y41 => ∃ a42, y41 = some a42 ∧ (hcl G19 a42 101 ∧ vp_in ((109 : Int32) + z20) (hN G19 a42) ∧ (hC G19 v0 = some (0, true) ∧ hlet (hsJ G19 v0 9 (hJ G19 a42 (Int32.toNatClampNeg ((109 : Int32) + z20)))) fun G46 => Q G46 (2 : Int32)))))) v0 v1 G12))) ∧ (¬ z13 = 0 → (Q G12 (1 : Int32)))) v0 v1 G5))) ∧ (¬ z6 = (-1 : Int32) → (Q G5 (0 : Int32)))) v0 v1 G2)
abbrev rmX4_caseFor : Room := { frames := 5, cells := 0, slots := 0, locals := 132 }
def wX4_logs_b50 (Q : hG → Prop) (v0 : Nat) (v1 : Int64) (v3 : Int64) (G : hG) : Prop :=
  hcl G v0 0 ∧ (wX4_many (fun G1 z2 => hcl G1 v0 0 ∧ hlet (hR G1 v0 0) fun y9 => ∃ a10, y9 = some a10 ∧ (hC G1 a10 = some (101, true) ∧ vp_in ((245 : Int32) + z2) (hN G1 a10) ∧ hlet (hsJ G1 a10 (Int32.toNatClampNeg ((245 : Int32) + z2)) v1) fun G13 => hcl G13 v0 0 ∧ hlet (hR G13 v0 0) fun y17 => ∃ a18, y17 = some a18 ∧ (hC G13 a18 = some (101, true) ∧ vp_in ((265 : Int32) + z2) (hN G13 a18) ∧ hlet (hsJ G13 a18 (Int32.toNatClampNeg ((265 : Int32) + z2)) v3) fun G21 => hcl G21 v0 0 ∧ hlet (hR G21 v0 0) fun y25 => ∃ a26, y25 = some a26 ∧ (hC G21 a26 = some (101, true) ∧ vp_in ((285 : Int32) + z2) (hN G21 a26) ∧ hlet (hsJ G21 a26 (Int32.toNatClampNeg ((285 : Int32) + z2)) (0 : Int64)) fun G29 => hcl G29 v0 0 ∧ hlet (hR G29 v0 0) fun y33 => ∃ a34, y33 = some a34 ∧ (hcl G29 a34 101 ∧ vp_in (5 : Int32) (hN G29 a34) ∧ (hC G29 a34 = some (101, true) ∧ vp_in (5 : Int32) (hN G29 a34) ∧ hlet (hsJ G29 a34 (Int32.toNatClampNeg (5 : Int32)) ((hJ G29 a34 (Int32.toNatClampNeg (5 : Int32))) + (1 : Int64))) fun G39 => Q G39)))))) v0 (5 : Int32) G)
def wX4_logs (Q : hG → Prop) (v0 : Nat) (v1 : Int64) (v3 : Int64) (G : hG) : Prop :=
  hcl G v0 0 ∧ (wX4_many (fun G1 z2 => (z2 = (20 : Int32) → (hcl G1 v0 0 ∧ (wX4_closes (fun G8 => hcl G8 v0 0 ∧ (wX4_closes (fun G13 => hcl G13 v0 0 ∧ (wX4_closes (fun G18 => hcl G18 v0 0 ∧ hlet (hR G18 v0 0) fun y24 => ∃ a25, y24 = some a25 ∧ (hcl G18 a25 101 ∧ vp_in (5 : Int32) (hN G18 a25) ∧ (hC G18 a25 = some (101, true) ∧ vp_in (5 : Int32) (hN G18 a25) ∧ hlet (hsJ G18 a25 (Int32.toNatClampNeg (5 : Int32)) ((hJ G18 a25 (Int32.toNatClampNeg (5 : Int32))) - (1 : Int64))) fun G30 => wX4_logs_b50 Q v0 v1 v3 G30))) v0 (285 : Int32) (20 : Int32) (0 : Int32) G13)) v0 (265 : Int32) (20 : Int32) (0 : Int32) G8)) v0 (245 : Int32) (20 : Int32) (0 : Int32) G1))) ∧ (¬ z2 = (20 : Int32) → (wX4_logs_b50 Q v0 v1 v3 G1))) v0 (5 : Int32) G)
abbrev rmX4_logs : Room := { frames := 1, cells := 0, slots := 0, locals := 24 }
def wX4_unlearns (Q : hG → Prop) (v0 : Nat) (v1 : Int32) (G : hG) : Prop :=
  hcl G v0 0 ∧ (wX4_many (fun G1 z2 => hcl G1 v0 0 ∧ (wX4_closes (fun G7 => hcl G7 v0 0 ∧ (wX4_many (fun G12 z13 => hcl G12 v0 0 ∧ (wX4_closes (fun G18 => hcl G18 v0 0 ∧ (wX4_many (fun G23 z24 => hcl G23 v0 0 ∧ (wX4_closes (fun G29 => hcl G29 v0 0 ∧ hlet (hR G29 v0 0) fun y35 => ∃ a36, y35 = some a36 ∧ (hcl G29 a36 101 ∧ vp_in (2 : Int32) (hN G29 a36) ∧ (hC G29 a36 = some (101, true) ∧ vp_in (2 : Int32) (hN G29 a36) ∧ hlet (hsJ G29 a36 (Int32.toNatClampNeg (2 : Int32)) ((hJ G29 a36 (Int32.toNatClampNeg (2 : Int32))) - (1 : Int64))) fun G41 => Q G41))) v0 (133 : Int32) z24 v1 G23)) v0 (2 : Int32) G18)) v0 (109 : Int32) z13 v1 G12)) v0 (2 : Int32) G7)) v0 (85 : Int32) z2 v1 G1)) v0 (2 : Int32) G)
abbrev rmX4_unlearns : Room := { frames := 1, cells := 0, slots := 0, locals := 24 }
def wX4_learns_b58 (Q : hG → Prop) (s0 : Nat) (s1 : Int32) (s2 : Int64) (s3 : Int64) (G : hG) : Prop :=
  hC G s0 = some (101, true) ∧ vp_in s1 (hN G s0) ∧ hlet (hsJ G s0 (Int32.toNatClampNeg s1) (s2 + s3)) fun G3 => Q G3
def wX4_learns_b117 (Q : hG → Prop) (r77 : Nat → Int64 → Int64 → Int32 → Int32 → hG → Prop) (v0 : Nat) (v1 : Int64) (v3 : Int64) (v7 : Int32) (s0 : Int32) (G : hG) : Prop :=
  r77 v0 v1 v3 s0 (v7 + (1 : Int32)) G
def wX4_learns_b131 (Q : hG → Prop) (v0 : Nat) (v1 : Int64) (v3 : Int64) (G : hG) : Prop :=
  hcl G v0 0 ∧ (wX4_many (fun G1 z2 => hcl G1 v0 0 ∧ hlet (hR G1 v0 0) fun y9 => ∃ a10, y9 = some a10 ∧ (hC G1 a10 = some (101, true) ∧ vp_in ((85 : Int32) + z2) (hN G1 a10) ∧ hlet (hsJ G1 a10 (Int32.toNatClampNeg ((85 : Int32) + z2)) v1) fun G13 => hcl G13 v0 0 ∧ hlet (hR G13 v0 0) fun y17 => ∃ a18, y17 = some a18 ∧ (hC G13 a18 = some (101, true) ∧ vp_in ((109 : Int32) + z2) (hN G13 a18) ∧ hlet (hsJ G13 a18 (Int32.toNatClampNeg ((109 : Int32) + z2)) v3) fun G21 => hcl G21 v0 0 ∧ hlet (hR G21 v0 0) fun y25 => ∃ a26, y25 = some a26 ∧ (hC G21 a26 = some (101, true) ∧ vp_in ((133 : Int32) + z2) (hN G21 a26) ∧ hlet (hsJ G21 a26 (Int32.toNatClampNeg ((133 : Int32) + z2)) (1 : Int64)) fun G29 => hcl G29 v0 0 ∧ hlet (hR G29 v0 0) fun y33 => ∃ a34, y33 = some a34 ∧ (hcl G29 a34 101 ∧ vp_in (2 : Int32) (hN G29 a34) ∧ (hC G29 a34 = some (101, true) ∧ vp_in (2 : Int32) (hN G29 a34) ∧ hlet (hsJ G29 a34 (Int32.toNatClampNeg (2 : Int32)) ((hJ G29 a34 (Int32.toNatClampNeg (2 : Int32))) + (1 : Int64))) fun G39 => Q G39)))))) v0 (2 : Int32) G)
def wX4_learns_b77 (Q : hG → Prop) (r77 : Nat → Int64 → Int64 → Int32 → Int32 → hG → Prop) (v0 : Nat) (v1 : Int64) (v3 : Int64) (v6 : Int32) (v7 : Int32) (G : hG) : Prop :=
  ((24 : Int32) ≤ v7 → (hcl G v0 0 ∧ (wX4_unlearns (fun G2 => wX4_learns_b131 Q v0 v1 v3 G2) v0 v6 G))) ∧ (¬ (24 : Int32) ≤ v7 → (hcl G v0 0 ∧ hlet (hR G v0 0) fun y8 => ∃ a9, y8 = some a9 ∧ (hcl G a9 101 ∧ vp_in ((133 : Int32) + v7) (hN G a9) ∧ (hcl G v0 0 ∧ hlet (hR G v0 0) fun y13 => ∃ a14, y13 = some a14 ∧ (hcl G a14 101 ∧ vp_in ((133 : Int32) + v6) (hN G a14) ∧ (((hJ G a14 (Int32.toNatClampNeg ((133 : Int32) + v6))) ≤ (hJ G a9 (Int32.toNatClampNeg ((133 : Int32) + v7))) → (wX4_learns_b117 Q r77 v0 v1 v3 v7 v6 G)) ∧ (¬ (hJ G a14 (Int32.toNatClampNeg ((133 : Int32) + v6))) ≤ (hJ G a9 (Int32.toNatClampNeg ((133 : Int32) + v7))) → (wX4_learns_b117 Q r77 v0 v1 v3 v7 v7 G))))))))
def wX4_learns_l77 (Q : hG → Prop) (n : Nat) : Nat → Int64 → Int64 → Int32 → Int32 → hG → Prop := Nat.rec (motive := fun _ => Nat → Int64 → Int64 → Int32 → Int32 → hG → Prop) (fun _ _ _ _ _ _ => False) (fun _ ih => wX4_learns_b77 Q ih) n
def wX4_learns (Q : hG → Prop) (v0 : Nat) (v1 : Int64) (v3 : Int64) (G : hG) : Prop :=
  hcl G v0 0 ∧ (wX4_many (fun G1 z2 => hcl G1 v0 0 ∧ (wX4_findBoth (fun G7 z8 => (z8 = (-1 : Int32) → (hcl G7 v0 0 ∧ (wX4_many (fun G15 z16 => (z16 = (24 : Int32) → (∃ n, wX4_learns_l77 Q n v0 v1 v3 (0 : Int32) (1 : Int32) G15)) ∧ (¬ z16 = (24 : Int32) → (wX4_learns_b131 Q v0 v1 v3 G15))) v0 (2 : Int32) G7))) ∧ (¬ z8 = (-1 : Int32) → (hcl G7 v0 0 ∧ hlet (hR G7 v0 0) fun y25 => ∃ a26, y25 = some a26 ∧ (hcl G7 a26 101 ∧ vp_in ((133 : Int32) + z8) (hN G7 a26) ∧ (hcl G7 v0 0 ∧ hlet (hR G7 v0 0) fun y30 => ∃ a31, y30 = some a31 ∧ (hcl G7 a31 101 ∧ vp_in ((133 : Int32) + z8) (hN G7 a31) ∧ (((99 : Int64) ≤ (hJ G7 a31 (Int32.toNatClampNeg ((133 : Int32) + z8))) → (wX4_learns_b58 Q a26 ((133 : Int32) + z8) (hJ G7 a26 (Int32.toNatClampNeg ((133 : Int32) + z8))) (0 : Int64) G7)) ∧ (¬ (99 : Int64) ≤ (hJ G7 a31 (Int32.toNatClampNeg ((133 : Int32) + z8))) → (wX4_learns_b58 Q a26 ((133 : Int32) + z8) (hJ G7 a26 (Int32.toNatClampNeg ((133 : Int32) + z8))) (1 : Int64) G7))))))))) v0 (85 : Int32) (109 : Int32) z2 v1 v3 G1)) v0 (2 : Int32) G)
abbrev rmX4_learns : Room := { frames := 2, cells := 0, slots := 0, locals := 45 }
def wX4_forgets (Q : hG → Prop) (v0 : Nat) (v1 : Int32) (G : hG) : Prop :=
  hcl G v0 0 ∧ (wX4_many (fun G1 z2 => hcl G1 v0 0 ∧ (wX4_closes (fun G7 => hcl G7 v0 0 ∧ (wX4_many (fun G12 z13 => hcl G12 v0 0 ∧ (wX4_closes (fun G18 => hcl G18 v0 0 ∧ hlet (hR G18 v0 0) fun y24 => ∃ a25, y24 = some a25 ∧ (hcl G18 a25 101 ∧ vp_in (4 : Int32) (hN G18 a25) ∧ (hC G18 a25 = some (101, true) ∧ vp_in (4 : Int32) (hN G18 a25) ∧ hlet (hsJ G18 a25 (Int32.toNatClampNeg (4 : Int32)) ((hJ G18 a25 (Int32.toNatClampNeg (4 : Int32))) - (1 : Int64))) fun G30 => Q G30))) v0 (225 : Int32) z13 v1 G12)) v0 (4 : Int32) G7)) v0 (205 : Int32) z2 v1 G1)) v0 (4 : Int32) G)
abbrev rmX4_forgets : Room := { frames := 1, cells := 0, slots := 0, locals := 24 }
def wX4_strange_b127 (Q : hG → Prop)  (G : hG) : Prop :=
  Q G
def wX4_strange_b72 (Q : hG → Prop) (v0 : Nat) (v1 : Int64) (v3 : Int32) (G : hG) : Prop :=
  hcl G v0 0 ∧ hlet (hR G v0 0) fun y2 => ∃ a3, y2 = some a3 ∧ (hcl G a3 101 ∧ vp_in ((225 : Int32) + v3) (hN G a3) ∧ (hC G a3 = some (101, true) ∧ vp_in ((225 : Int32) + v3) (hN G a3) ∧ hlet (hsJ G a3 (Int32.toNatClampNeg ((225 : Int32) + v3)) ((hJ G a3 (Int32.toNatClampNeg ((225 : Int32) + v3))) + (1 : Int64))) fun G8 => hcl G8 v0 0 ∧ hlet (hR G8 v0 0) fun y12 => ∃ a13, y12 = some a13 ∧ (hcl G8 a13 101 ∧ vp_in ((225 : Int32) + v3) (hN G8 a13) ∧ (hcl G8 v0 0 ∧ hlet (hR G8 v0 0) fun y17 => ∃ a18, y17 = some a18 ∧ (hcl G8 a18 101 ∧ vp_in (8 : Int32) (hN G8 a18) ∧ (((hJ G8 a13 (Int32.toNatClampNeg ((225 : Int32) + v3))) = (hJ G8 a18 (Int32.toNatClampNeg (8 : Int32))) → (hcl G8 v0 0 ∧ (wX4_many (fun G22 z23 => ((10 : Int32) ≤ z23 → (wX4_strange_b127 Q G22)) ∧ (¬ (10 : Int32) ≤ z23 → (hcl G22 v0 0 ∧ (wX4_names (fun G29 => hcl G29 v0 0 ∧ (wX4_forgets (fun G34 => wX4_strange_b127 Q G34) v0 v3 G29)) v0 v1 G22)))) v0 (1 : Int32) G8))) ∧ (¬ (hJ G8 a13 (Int32.toNatClampNeg ((225 : Int32) + v3))) = (hJ G8 a18 (Int32.toNatClampNeg (8 : Int32))) → (wX4_strange_b127 Q G8))))))))
def wX4_strange_b34 (Q : hG → Prop) (v0 : Nat) (v1 : Int64) (G : hG) : Prop :=
  hcl G v0 0 ∧ (wX4_many (fun G1 z2 => hcl G1 v0 0 ∧ hlet (hR G1 v0 0) fun y9 => ∃ a10, y9 = some a10 ∧ (hC G1 a10 = some (101, true) ∧ vp_in ((205 : Int32) + z2) (hN G1 a10) ∧ hlet (hsJ G1 a10 (Int32.toNatClampNeg ((205 : Int32) + z2)) v1) fun G13 => hcl G13 v0 0 ∧ hlet (hR G13 v0 0) fun y17 => ∃ a18, y17 = some a18 ∧ (hC G13 a18 = some (101, true) ∧ vp_in ((225 : Int32) + z2) (hN G13 a18) ∧ hlet (hsJ G13 a18 (Int32.toNatClampNeg ((225 : Int32) + z2)) (0 : Int64)) fun G21 => hcl G21 v0 0 ∧ hlet (hR G21 v0 0) fun y25 => ∃ a26, y25 = some a26 ∧ (hcl G21 a26 101 ∧ vp_in (4 : Int32) (hN G21 a26) ∧ (hC G21 a26 = some (101, true) ∧ vp_in (4 : Int32) (hN G21 a26) ∧ hlet (hsJ G21 a26 (Int32.toNatClampNeg (4 : Int32)) ((hJ G21 a26 (Int32.toNatClampNeg (4 : Int32))) + (1 : Int64))) fun G31 => wX4_strange_b72 Q v0 v1 z2 G31))))) v0 (4 : Int32) G)
def wX4_strange (Q : hG → Prop) (v0 : Nat) (v1 : Int64) (G : hG) : Prop :=
  hcl G v0 0 ∧ (wX4_many (fun G1 z2 => hcl G1 v0 0 ∧ (wX4_find (fun G7 z8 => (z8 = (-1 : Int32) → (hcl G7 v0 0 ∧ (wX4_many (fun G15 z16 => (z16 = (20 : Int32) → (hcl G15 v0 0 ∧ (wX4_forgets (fun G22 => wX4_strange_b34 Q v0 v1 G22) v0 (0 : Int32) G15))) ∧ (¬ z16 = (20 : Int32) → (wX4_strange_b34 Q v0 v1 G15))) v0 (4 : Int32) G7))) ∧ (¬ z8 = (-1 : Int32) → (wX4_strange_b72 Q v0 v1 z8 G7))) v0 (205 : Int32) z2 v1 G1)) v0 (4 : Int32) G)
abbrev rmX4_strange : Room := { frames := 4, cells := 0, slots := 0, locals := 92 }
def wX4_correct_b116 (Q : hG → Int64 → Prop) (v4 : Int64) (G : hG) : Prop :=
  Q G v4
def wX4_correct_b79 (Q : hG → Int64 → Prop) (v4 : Int64) (s0 : Nat) (s1 : Int32) (s2 : Int64) (s3 : Int64) (G : hG) : Prop :=
  hC G s0 = some (101, true) ∧ vp_in s1 (hN G s0) ∧ hlet (hsJ G s0 (Int32.toNatClampNeg s1) (s2 + s3)) fun G3 => wX4_correct_b116 Q v4 G3
def wX4_correct (Q : hG → Int64 → Prop) (v0 : Nat) (v1 : Int64) (G : hG) : Prop :=
  hC G v0 = some (0, true) ∧ hlet (hsI G v0 4 (0 : Int32)) fun G2 => wX4_isWord (fun G5 z6 => (z6 = 0 → (hcl G5 v0 0 ∧ (wX4_fails (fun G61 z62 => Q G61 ((z62).toInt64)) v0 (1 : Int32) G5))) ∧ (¬ z6 = 0 → (hcl G5 v0 0 ∧ (wX4_caseFor (fun G11 z12 => hcl G11 v0 0 ∧ (hcl G11 v0 0 ∧ (wX4_save (fun G20 => (z12 = 0 → (hcl G20 v0 0 ∧ (wX4_place (fun G43 z44 => hcl G43 v0 0 ∧ hlet (hR G43 v0 0) fun y51 => ∃ a52, y51 = some a52 ∧ (hcl G43 a52 101 ∧ vp_in ((55 : Int32) + z44) (hN G43 a52) ∧ (hcl G43 v0 0 ∧ hlet (hR G43 v0 0) fun y56 => ∃ a57, y56 = some a57 ∧ (hcl G43 a57 101 ∧ vp_in ((55 : Int32) + z44) (hN G43 a57) ∧ (((999 : Int64) ≤ (hJ G43 a57 (Int32.toNatClampNeg ((55 : Int32) + z44))) → (wX4_correct_b79 Q (hJ G11 v0 9) a52 ((55 : Int32) + z44) (hJ G43 a52 (Int32.toNatClampNeg ((55 : Int32) + z44))) (0 : Int64) G43)) ∧ (¬ (999 : Int64) ≤ (hJ G43 a57 (Int32.toNatClampNeg ((55 : Int32) + z44))) → (wX4_correct_b79 Q (hJ G11 v0 9) a52 ((55 : Int32) + z44) (hJ G43 a52 (Int32.toNatClampNeg ((55 : Int32) + z44))) (1 : Int64) G43))))))) v0 v1 G20))) ∧ (¬ z12 = 0 → ((z12 = (4 : Int32) → (hcl G20 v0 0 ∧ (wX4_strange (fun G38 => wX4_correct_b116 Q (hJ G11 v0 9) G38) v0 v1 G20))) ∧ (¬ z12 = (4 : Int32) → ((z12 ≤ (1 : Int32) → (wX4_correct_b116 Q (hJ G11 v0 9) G20)) ∧ (¬ z12 ≤ (1 : Int32) → (hcl G20 v0 0 ∧ (wX4_logs (fun G28 => hcl G28 v0 0 ∧ (wX4_learns (fun G33 => wX4_correct_b116 Q (hJ G11 v0 9) G33) v0 v1 (hJ G11 v0 9) G28)) v0 v1 (hJ G11 v0 9) G20)))))))) v0 G11))) v0 v1 G5)))) v1 G2
abbrev rmX4_correct : Room := { frames := 6, cells := 0, slots := 0, locals := 155 }
def wX4_takeBack_b194 (Q : hG → Int64 → Prop) (v0 : Nat) (v2 : Int64) (G : hG) : Prop :=
  hcl G v0 0 ∧ (wX4_strange (fun G1 => Q G1 v2) v0 v2 G)
def wX4_takeBack_b164 (Q : hG → Int64 → Prop) (v0 : Nat) (v2 : Int64) (v4 : Int64) (G : hG) : Prop :=
  hcl G v0 0 ∧ (wX4_many (fun G1 z2 => hcl G1 v0 0 ∧ (wX4_findBoth (fun G7 z8 => (z8 = (-1 : Int32) → (wX4_takeBack_b194 Q v0 v2 G7)) ∧ (¬ z8 = (-1 : Int32) → (hcl G7 v0 0 ∧ (wX4_unlearns (fun G15 => wX4_takeBack_b194 Q v0 v2 G15) v0 z8 G7)))) v0 (85 : Int32) (109 : Int32) z2 v2 v4 G1)) v0 (2 : Int32) G)
def wX4_takeBack_b103 (Q : hG → Int64 → Prop) (v0 : Nat) (v1 : Int32) (v2 : Int64) (v4 : Int64) (v6 : Int32) (G : hG) : Prop :=
  hcl G v0 0 ∧ (wX4_save (fun G1 => hcl G1 v0 0 ∧ hlet (hR G1 v0 0) fun y7 => ∃ a8, y7 = some a8 ∧ (hC G1 a8 = some (101, true) ∧ vp_in ((285 : Int32) + v1) (hN G1 a8) ∧ hlet (hsJ G1 a8 (Int32.toNatClampNeg ((285 : Int32) + v1)) (1 : Int64)) fun G11 => (v6 = 0 → (hcl G11 v0 0 ∧ hlet (hR G11 v0 0) fun y16 => hcl G11 v0 0 ∧ (wX4_many (fun G17 z18 => ∃ a23, y16 = some a23 ∧ (hC G17 a23 = some (101, true) ∧ vp_in ((157 : Int32) + z18) (hN G17 a23) ∧ hlet (hsJ G17 a23 (Int32.toNatClampNeg ((157 : Int32) + z18)) v2) fun G26 => hcl G26 v0 0 ∧ hlet (hR G26 v0 0) fun y30 => hcl G26 v0 0 ∧ (wX4_many (fun G31 z32 => ∃ a37, y30 = some a37 ∧ (hC G31 a37 = some (101, true) ∧ vp_in ((181 : Int32) + z32) (hN G31 a37) ∧ hlet (hsJ G31 a37 (Int32.toNatClampNeg ((181 : Int32) + z32)) v4) fun G40 => hcl G40 v0 0 ∧ hlet (hR G40 v0 0) fun y44 => ∃ a45, y44 = some a45 ∧ (hcl G40 a45 101 ∧ vp_in (3 : Int32) (hN G40 a45) ∧ (hC G40 a45 = some (101, true) ∧ vp_in (3 : Int32) (hN G40 a45) ∧ hlet (hsJ G40 a45 (Int32.toNatClampNeg (3 : Int32)) ((hJ G40 a45 (Int32.toNatClampNeg (3 : Int32))) + (1 : Int64))) fun G50 => wX4_takeBack_b164 Q v0 v2 v4 G50)))) v0 (3 : Int32) G26))) v0 (3 : Int32) G11))) ∧ (¬ v6 = 0 → (wX4_takeBack_b164 Q v0 v2 v4 G11)))) v0 G)
def wX4_takeBack_b38 (Q : hG → Int64 → Prop) (v0 : Nat) (v1 : Int32) (G : hG) : Prop :=
  (0 ≤ v1 → (hcl G v0 0 ∧ hlet (hR G v0 0) fun y3 => ∃ a4, y3 = some a4 ∧ (hcl G a4 101 ∧ vp_in ((245 : Int32) + v1) (hN G a4) ∧ (hlet (hJ G a4 (Int32.toNatClampNeg ((245 : Int32) + v1))) fun x7 => hcl G v0 0 ∧ hlet (hR G v0 0) fun y10 => ∃ a11, y10 = some a11 ∧ (hcl G a11 101 ∧ vp_in ((265 : Int32) + v1) (hN G a11) ∧ (hlet (hJ G a11 (Int32.toNatClampNeg ((265 : Int32) + v1))) fun x14 => hcl G v0 0 ∧ (wX4_isBanned (fun G16 z17 => (z17 = 0 → (hcl G16 v0 0 ∧ (wX4_many (fun G24 z25 => (z25 = (24 : Int32) → (hcl G24 v0 0 ∧ (wX4_fails (fun G31 z32 => Q G31 ((z32).toInt64)) v0 (1 : Int32) G24))) ∧ (¬ z25 = (24 : Int32) → (wX4_takeBack_b103 Q v0 v1 x7 x14 z17 G24))) v0 (3 : Int32) G16))) ∧ (¬ z17 = 0 → (wX4_takeBack_b103 Q v0 v1 x7 x14 z17 G16))) v0 x7 x14 G))))))) ∧ (¬ 0 ≤ v1 → (hcl G v0 0 ∧ (wX4_fails (fun G37 z38 => Q G37 ((z38).toInt64)) v0 (1 : Int32) G)))
def wX4_takeBack_b13 (Q : hG → Int64 → Prop) (r13 : Nat → Int32 → hG → Prop) (v0 : Nat) (v1 : Int32) (G : hG) : Prop :=
  (v1 < 0 → (wX4_takeBack_b38 Q v0 v1 G)) ∧ (¬ v1 < 0 → (hcl G v0 0 ∧ hlet (hR G v0 0) fun y3 => ∃ a4, y3 = some a4 ∧ (hcl G a4 101 ∧ vp_in ((285 : Int32) + v1) (hN G a4) ∧ (((hJ G a4 (Int32.toNatClampNeg ((285 : Int32) + v1))) = (1 : Int64) → (r13 v0 (v1 + (-1 : Int32)) G)) ∧ (¬ (hJ G a4 (Int32.toNatClampNeg ((285 : Int32) + v1))) = (1 : Int64) → (wX4_takeBack_b38 Q v0 v1 G))))))
def wX4_takeBack_l13 (Q : hG → Int64 → Prop) (n : Nat) : Nat → Int32 → hG → Prop := Nat.rec (motive := fun _ => Nat → Int32 → hG → Prop) (fun _ _ _ => False) (fun _ ih => wX4_takeBack_b13 Q ih) n
def wX4_takeBack (Q : hG → Int64 → Prop) (v0 : Nat) (G : hG) : Prop :=
  hC G v0 = some (0, true) ∧ hlet (hsI G v0 4 (0 : Int32)) fun G2 => hcl G2 v0 0 ∧ (wX4_many (fun G5 z6 => ∃ n, wX4_takeBack_l13 Q n v0 (z6 - (1 : Int32)) G5) v0 (5 : Int32) G2)
abbrev rmX4_takeBack : Room := { frames := 5, cells := 0, slots := 0, locals := 115 }
def wX4_allow_b19 (Q : hG → Int32 → Prop) (v0 : Nat) (G : hG) : Prop :=
  hcl G v0 0 ∧ (wX4_fails (fun G1 z2 => Q G1 z2) v0 (1 : Int32) G)
def wX4_allow (Q : hG → Int32 → Prop) (v0 : Nat) (v1 : Int64) (v3 : Int64) (G : hG) : Prop :=
  hC G v0 = some (0, true) ∧ hlet (hsI G v0 4 (0 : Int32)) fun G2 => wX4_isWord (fun G5 z6 => (z6 = 0 → (wX4_allow_b19 Q v0 G5)) ∧ (¬ z6 = 0 → (wX4_isWord (fun G11 z12 => (z12 = 0 → (wX4_allow_b19 Q v0 G11)) ∧ (¬ z12 = 0 → (hcl G11 v0 0 ∧ (wX4_many (fun G17 z18 => hcl G17 v0 0 ∧ (wX4_findBoth (fun G23 z24 => hcl G23 v0 0 ∧ (wX4_save (fun G30 => (z24 = (-1 : Int32) → (Q G30 (0 : Int32))) ∧ (¬ z24 = (-1 : Int32) → (hcl G30 v0 0 ∧ (wX4_many (fun G36 z37 => hcl G36 v0 0 ∧ (wX4_closes (fun G42 => hcl G42 v0 0 ∧ (wX4_many (fun G47 z48 => hcl G47 v0 0 ∧ (wX4_closes (fun G53 => hcl G53 v0 0 ∧ hlet (hR G53 v0 0) fun y59 => ∃ a60, y59 = some a60 ∧ (hcl G53 a60 101 ∧ vp_in (3 : Int32) (hN G53 a60) ∧ (hC G53 a60 = some (101, true) ∧ vp_in (3 : Int32) (hN G53 a60) ∧ hlet (hsJ G53 a60 (Int32.toNatClampNeg (3 : Int32)) ((hJ G53 a60 (Int32.toNatClampNeg (3 : Int32))) - (1 : Int64))) fun G65 => Q G65 (1 : Int32)))) v0 (181 : Int32) z48 z24 G47)) v0 (3 : Int32) G42)) v0 (157 : Int32) z37 z24 G36)) v0 (3 : Int32) G30)))) v0 G23)) v0 (157 : Int32) (181 : Int32) z18 v1 v3 G17)) v0 (3 : Int32) G11)))) v3 G5))) v1 G2
abbrev rmX4_allow : Room := { frames := 2, cells := 0, slots := 0, locals := 49 }
def wX4_countOf_b33 (Q : hG → Int32 → Prop) (r6 : Nat → Int32 → Int32 → Int64 → Int32 → Int32 → hG → Prop) (v0 : Nat) (v1 : Int32) (v2 : Int32) (v3 : Int64) (v6 : Int32) (s0 : Int32) (s1 : Int32) (G : hG) : Prop :=
  r6 v0 v1 v2 v3 (s0 + s1) (v6 + (1 : Int32)) G
def wX4_countOf_b6 (Q : hG → Int32 → Prop) (r6 : Nat → Int32 → Int32 → Int64 → Int32 → Int32 → hG → Prop) (v0 : Nat) (v1 : Int32) (v2 : Int32) (v3 : Int64) (v5 : Int32) (v6 : Int32) (G : hG) : Prop :=
  (v2 ≤ v6 → (Q G v5)) ∧ (¬ v2 ≤ v6 → (hcl G v0 0 ∧ hlet (hR G v0 0) fun y3 => ∃ a4, y3 = some a4 ∧ (hcl G a4 101 ∧ vp_in (v1 + v6) (hN G a4) ∧ (((hJ G a4 (Int32.toNatClampNeg (v1 + v6))) = v3 → (wX4_countOf_b33 Q r6 v0 v1 v2 v3 v6 v5 (1 : Int32) G)) ∧ (¬ (hJ G a4 (Int32.toNatClampNeg (v1 + v6))) = v3 → (wX4_countOf_b33 Q r6 v0 v1 v2 v3 v6 v5 (0 : Int32) G))))))
def wX4_countOf_l6 (Q : hG → Int32 → Prop) (n : Nat) : Nat → Int32 → Int32 → Int64 → Int32 → Int32 → hG → Prop := Nat.rec (motive := fun _ => Nat → Int32 → Int32 → Int64 → Int32 → Int32 → hG → Prop) (fun _ _ _ _ _ _ _ => False) (fun _ ih => wX4_countOf_b6 Q ih) n
def wX4_countOf (Q : hG → Int32 → Prop) (v0 : Nat) (v1 : Int32) (v2 : Int32) (v3 : Int64) (G : hG) : Prop :=
  ∃ n, wX4_countOf_l6 Q n v0 v1 v2 v3 (0 : Int32) (0 : Int32) G
abbrev rmX4_countOf : Room := { frames := 0, cells := 0, slots := 0, locals := 0 }
def wX4_valueOf_b81 (Q : hG → Int32 → Prop) (s0 : Int32) (G : hG) : Prop :=
  Q G s0
def wX4_valueOf_b95 (Q : hG → Int32 → Prop) (s0 : Int32) (G : hG) : Prop :=
  Q G s0
def wX4_valueOf_b118 (Q : hG → Int32 → Prop) (s0 : Int32) (G : hG) : Prop :=
  Q G s0
def wX4_valueOf (Q : hG → Int32 → Prop) (v0 : Nat) (v1 : Int64) (v3 : Int32) (G : hG) : Prop :=
  hcl G v0 0 ∧ (wX4_place (fun G1 z2 => hcl G1 v0 0 ∧ (wX4_many (fun G8 z9 => hcl G8 v0 0 ∧ (wX4_find (fun G14 z15 => (v3 = (0 : Int32) → ((z2 = (-1 : Int32) → (wX4_valueOf_b81 Q (0 : Int32) G14)) ∧ (¬ z2 = (-1 : Int32) → (hcl G14 v0 0 ∧ hlet (hR G14 v0 0) fun y24 => ∃ a25, y24 = some a25 ∧ (hcl G14 a25 101 ∧ vp_in ((55 : Int32) + z2) (hN G14 a25) ∧ (wX4_valueOf_b81 Q (((hJ G14 a25 (Int32.toNatClampNeg ((55 : Int32) + z2)))).toInt32) G14)))))) ∧ (v3 = (1 : Int32) → (hcl G14 v0 0 ∧ (wX4_isName (fun G29 z30 => (z30 = 0 → (wX4_valueOf_b95 Q (0 : Int32) G29)) ∧ (¬ z30 = 0 → (wX4_valueOf_b95 Q (1 : Int32) G29))) v0 v1 G14))) ∧ (v3 = (2 : Int32) → ((z15 = (-1 : Int32) → (wX4_valueOf_b118 Q (0 : Int32) G14)) ∧ (¬ z15 = (-1 : Int32) → (hcl G14 v0 0 ∧ hlet (hR G14 v0 0) fun y39 => ∃ a40, y39 = some a40 ∧ (hcl G14 a40 101 ∧ vp_in ((225 : Int32) + z15) (hN G14 a40) ∧ (wX4_valueOf_b118 Q (((hJ G14 a40 (Int32.toNatClampNeg ((225 : Int32) + z15)))).toInt32) G14)))))) ∧ (v3 = (3 : Int32) → (wX4_letters (fun G44 z45 => Q G44 z45) v1 G14)) ∧ (v3 = (4 : Int32) → (Q G14 z2)) ∧ (v3 = (5 : Int32) → (hcl G14 v0 0 ∧ (wX4_many (fun G51 z52 => hcl G51 v0 0 ∧ (wX4_countOf (fun G57 z58 => Q G57 z58) v0 (85 : Int32) z52 v1 G51)) v0 (2 : Int32) G14))) ∧ (¬ v3 = (0 : Int32) ∧ ¬ v3 = (1 : Int32) ∧ ¬ v3 = (2 : Int32) ∧ ¬ v3 = (3 : Int32) ∧ ¬ v3 = (4 : Int32) ∧ ¬ v3 = (5 : Int32) → (hcl G14 v0 0 ∧ (wX4_many (fun G63 z64 => hcl G63 v0 0 ∧ (wX4_countOf (fun G69 z70 => Q G69 z70) v0 (157 : Int32) z64 v1 G63)) v0 (3 : Int32) G14)))) v0 (205 : Int32) z9 v1 G8)) v0 (4 : Int32) G1)) v0 v1 G)
abbrev rmX4_valueOf : Room := { frames := 2, cells := 0, slots := 0, locals := 48 }
def wX4_word_b38 (Q : hG → Int32 → Prop) (s0 : Int32) (G : hG) : Prop :=
  Q G s0
def wX4_word_b33 (Q : hG → Int32 → Prop) (v0 : Nat) (G : hG) : Prop :=
  hcl G v0 0 ∧ (wX4_fails (fun G1 z2 => wX4_word_b38 Q z2 G1) v0 (1 : Int32) G)
def wX4_word (Q : hG → Int32 → Prop) (v0 : Nat) (v1 : Int64) (v3 : Int32) (G : hG) : Prop :=
  hC G v0 = some (0, true) ∧ hlet (hsI G v0 4 (0 : Int32)) fun G2 => wX4_isWord (fun G5 z6 => (z6 = 0 → (wX4_word_b33 Q v0 G5)) ∧ (¬ z6 = 0 → (wX4_in (fun G11 z12 => (z12 = 0 → (wX4_word_b33 Q v0 G11)) ∧ (¬ z12 = 0 → (hcl G11 v0 0 ∧ (wX4_valueOf (fun G17 z18 => wX4_word_b38 Q z18 G17) v0 v1 v3 G11)))) ((v3).toInt64) (0 : Int64) (6 : Int64) G5))) v1 G2
abbrev rmX4_word : Room := { frames := 3, cells := 0, slots := 0, locals := 73 }
def wX4_listed_b59 (Q : hG → Int64 → Prop) (s0 : Int64) (G : hG) : Prop :=
  Q G s0
def wX4_listed_b50 (Q : hG → Int64 → Prop) (v2 : Int32) (s0 : Option Nat) (s1 : Int32) (G : hG) : Prop :=
  ∃ a1, s0 = some a1 ∧ (hcl G a1 101 ∧ vp_in (s1 + v2) (hN G a1) ∧ (wX4_listed_b59 Q (hJ G a1 (Int32.toNatClampNeg (s1 + v2))) G))
def wX4_listed_b26 (Q : hG → Int64 → Prop) (v0 : Nat) (v1 : Int32) (v2 : Int32) (s0 : Nat) (s1 : Int32) (G : hG) : Prop :=
  hcl G s0 0 ∧ (wX4_many (fun G1 z2 => (z2 ≤ v2 → (wX4_listed_b59 Q (-1 : Int64) G1)) ∧ (¬ z2 ≤ v2 → (hcl G1 v0 0 ∧ hlet (hR G1 v0 0) fun y10 => (v1 = 0 → (wX4_listed_b50 Q v2 y10 (35 : Int32) G1)) ∧ (¬ v1 = 0 → (wX4_listed_b50 Q v2 y10 (75 : Int32) G1))))) s0 s1 G)
def wX4_listed (Q : hG → Int64 → Prop) (v0 : Nat) (v1 : Int32) (v2 : Int32) (G : hG) : Prop :=
  hC G v0 = some (0, true) ∧ hlet (hsI G v0 4 (0 : Int32)) fun G2 => (0 ≤ v2 → ((v1 = 0 → (wX4_listed_b26 Q v0 v1 v2 v0 (0 : Int32) G2)) ∧ (¬ v1 = 0 → (wX4_listed_b26 Q v0 v1 v2 v0 (1 : Int32) G2)))) ∧ (¬ 0 ≤ v2 → (hcl G2 v0 0 ∧ (wX4_fails (fun G7 z8 => Q G7 ((z8).toInt64)) v0 (1 : Int32) G2)))
abbrev rmX4_listed : Room := { frames := 1, cells := 0, slots := 0, locals := 21 }
def wX4_pairOf_b26 (Q : hG → Int64 → Prop) (v1 : Int32) (s0 : Option Nat) (s1 : Int32) (G : hG) : Prop :=
  ∃ a1, s0 = some a1 ∧ (hcl G a1 101 ∧ vp_in (s1 + v1) (hN G a1) ∧ (Q G (hJ G a1 (Int32.toNatClampNeg (s1 + v1)))))
def wX4_pairOf (Q : hG → Int64 → Prop) (v0 : Nat) (v1 : Int32) (v2 : Int32) (G : hG) : Prop :=
  hcl G v0 0 ∧ hlet (hR G v0 0) fun y2 => (v2 = 0 → (wX4_pairOf_b26 Q v1 y2 (85 : Int32) G)) ∧ (¬ v2 = 0 → ((v2 = (1 : Int32) → (wX4_pairOf_b26 Q v1 y2 (109 : Int32) G)) ∧ (¬ v2 = (1 : Int32) → (wX4_pairOf_b26 Q v1 y2 (133 : Int32) G))))
abbrev rmX4_pairOf : Room := { frames := 0, cells := 0, slots := 0, locals := 0 }
def wX4_pair_b21 (Q : hG → Int64 → Prop) (v0 : Nat) (G : hG) : Prop :=
  hcl G v0 0 ∧ (wX4_fails (fun G1 z2 => Q G1 ((z2).toInt64)) v0 (1 : Int32) G)
def wX4_pair_b49 (Q : hG → Int64 → Prop) (s0 : Int64) (G : hG) : Prop :=
  Q G s0
def wX4_pair (Q : hG → Int64 → Prop) (v0 : Nat) (v1 : Int32) (v2 : Int32) (G : hG) : Prop :=
  hC G v0 = some (0, true) ∧ hlet (hsI G v0 4 (0 : Int32)) fun G2 => (v1 < 0 → (wX4_pair_b21 Q v0 G2)) ∧ (¬ v1 < 0 → (wX4_in (fun G6 z7 => (z7 = 0 → (wX4_pair_b21 Q v0 G6)) ∧ (¬ z7 = 0 → (hcl G6 v0 0 ∧ (wX4_many (fun G12 z13 => (z13 ≤ v1 → (wX4_pair_b49 Q (-1 : Int64) G12)) ∧ (¬ z13 ≤ v1 → (hcl G12 v0 0 ∧ (wX4_pairOf (fun G19 z20 => wX4_pair_b49 Q z20 G19) v0 v1 v2 G12)))) v0 (2 : Int32) G6)))) ((v2).toInt64) (0 : Int64) (2 : Int64) G2))
abbrev rmX4_pair : Room := { frames := 1, cells := 0, slots := 0, locals := 25 }
def wX4_loggedOf_b28 (Q : hG → Int64 → Prop) (v0 : Nat) (v1 : Int32) (s0 : Option Nat) (s1 : Int32) (G : hG) : Prop :=
  hcl G v0 0 ∧ (wX4_many (fun G1 z2 => ∃ a7, s0 = some a7 ∧ (hcl G1 a7 101 ∧ vp_in (((s1 + z2) - (1 : Int32)) - v1) (hN G1 a7) ∧ (Q G1 (hJ G1 a7 (Int32.toNatClampNeg (((s1 + z2) - (1 : Int32)) - v1)))))) v0 (5 : Int32) G)
def wX4_loggedOf (Q : hG → Int64 → Prop) (v0 : Nat) (v1 : Int32) (v2 : Int32) (G : hG) : Prop :=
  hcl G v0 0 ∧ hlet (hR G v0 0) fun y2 => (v2 = 0 → (wX4_loggedOf_b28 Q v0 v1 y2 (245 : Int32) G)) ∧ (¬ v2 = 0 → ((v2 = (1 : Int32) → (wX4_loggedOf_b28 Q v0 v1 y2 (265 : Int32) G)) ∧ (¬ v2 = (1 : Int32) → (wX4_loggedOf_b28 Q v0 v1 y2 (285 : Int32) G))))
abbrev rmX4_loggedOf : Room := { frames := 1, cells := 0, slots := 0, locals := 21 }
def wX4_logged_b21 (Q : hG → Int64 → Prop) (v0 : Nat) (G : hG) : Prop :=
  hcl G v0 0 ∧ (wX4_fails (fun G1 z2 => Q G1 ((z2).toInt64)) v0 (1 : Int32) G)
def wX4_logged_b49 (Q : hG → Int64 → Prop) (s0 : Int64) (G : hG) : Prop :=
  Q G s0
def wX4_logged (Q : hG → Int64 → Prop) (v0 : Nat) (v1 : Int32) (v2 : Int32) (G : hG) : Prop :=
  hC G v0 = some (0, true) ∧ hlet (hsI G v0 4 (0 : Int32)) fun G2 => (v1 < 0 → (wX4_logged_b21 Q v0 G2)) ∧ (¬ v1 < 0 → (wX4_in (fun G6 z7 => (z7 = 0 → (wX4_logged_b21 Q v0 G6)) ∧ (¬ z7 = 0 → (hcl G6 v0 0 ∧ (wX4_many (fun G12 z13 => (z13 ≤ v1 → (wX4_logged_b49 Q (-1 : Int64) G12)) ∧ (¬ z13 ≤ v1 → (hcl G12 v0 0 ∧ (wX4_loggedOf (fun G19 z20 => wX4_logged_b49 Q z20 G19) v0 v1 v2 G12)))) v0 (5 : Int32) G6)))) ((v2).toInt64) (0 : Int64) (2 : Int64) G2))
abbrev rmX4_logged : Room := { frames := 2, cells := 0, slots := 0, locals := 43 }
def wX4_beside_b25 (Q : hG → Int32 → Prop) (r4 : Nat → Int32 → Int32 → Int32 → hG → Prop) (v0 : Nat) (v1 : Int32) (v3 : Int32) (s0 : Int32) (s1 : Int32) (G : hG) : Prop :=
  r4 v0 v1 (s0 + s1) (v3 + (1 : Int32)) G
def wX4_beside_b4 (Q : hG → Int32 → Prop) (r4 : Nat → Int32 → Int32 → Int32 → hG → Prop) (v0 : Nat) (v1 : Int32) (v2 : Int32) (v3 : Int32) (G : hG) : Prop :=
  ((26 : Int32) ≤ v3 → (Q G v2)) ∧ (¬ (26 : Int32) ≤ v3 → (hcl G v0 0 ∧ (wX4_areBeside (fun G2 z3 => (z3 = 0 → (wX4_beside_b25 Q r4 v0 v1 v3 v2 (0 : Int32) G2)) ∧ (¬ z3 = 0 → (wX4_beside_b25 Q r4 v0 v1 v3 v2 (1 : Int32) G2))) v0 v1 v3 G)))
def wX4_beside_l4 (Q : hG → Int32 → Prop) (n : Nat) : Nat → Int32 → Int32 → Int32 → hG → Prop := Nat.rec (motive := fun _ => Nat → Int32 → Int32 → Int32 → hG → Prop) (fun _ _ _ _ _ => False) (fun _ ih => wX4_beside_b4 Q ih) n
def wX4_beside (Q : hG → Int32 → Prop) (v0 : Nat) (v1 : Int32) (G : hG) : Prop :=
  ∃ n, wX4_beside_l4 Q n v0 v1 (0 : Int32) (0 : Int32) G
abbrev rmX4_beside : Room := { frames := 1, cells := 0, slots := 0, locals := 28 }
def wX4_key_b29 (Q : hG → Int32 → Prop) (v0 : Nat) (G : hG) : Prop :=
  hcl G v0 0 ∧ (wX4_fails (fun G1 z2 => Q G1 z2) v0 (1 : Int32) G)
def wX4_key_b65 (Q : hG → Int32 → Prop) (s0 : Int32) (G : hG) : Prop :=
  Q G s0
def wX4_key_b102 (Q : hG → Int32 → Prop) (s0 : Int32) (G : hG) : Prop :=
  Q G s0
def wX4_key (Q : hG → Int32 → Prop) (v0 : Nat) (v1 : Int32) (v2 : Int32) (G : hG) : Prop :=
  hC G v0 = some (0, true) ∧ hlet (hsI G v0 4 (0 : Int32)) fun G2 => wX4_in (fun G5 z6 => (z6 = 0 → (wX4_key_b29 Q v0 G5)) ∧ (¬ z6 = 0 → (wX4_in (fun G11 z12 => (z12 = 0 → (wX4_key_b29 Q v0 G11)) ∧ (¬ z12 = 0 → (((2 : Int32) ≤ v2 → ((v2 = (2 : Int32) → (hcl G11 v0 0 ∧ (wX4_hand (fun G31 z32 => wX4_key_b102 Q z32 G31) v0 v1 G11))) ∧ (¬ v2 = (2 : Int32) → ((v2 = (3 : Int32) → (hcl G11 v0 0 ∧ hlet (hR G11 v0 0) fun y27 => ∃ a28, y27 = some a28 ∧ (hcl G11 a28 101 ∧ vp_in ((9 : Int32) + v1) (hN G11 a28) ∧ (wX4_key_b102 Q (((hJ G11 a28 (Int32.toNatClampNeg ((9 : Int32) + v1)))).toInt32) G11)))) ∧ (¬ v2 = (3 : Int32) → (hcl G11 v0 0 ∧ (wX4_beside (fun G20 z21 => wX4_key_b102 Q z21 G20) v0 v1 G11))))))) ∧ (¬ (2 : Int32) ≤ v2 → ((v2 = 0 → (hcl G11 v0 0 ∧ hlet (hR G11 v0 5) fun y44 => ∃ a45, y44 = some a45 ∧ (hcl G11 a45 100 ∧ vp_in v1 (hN G11 a45) ∧ (wX4_key_b65 Q ((hI G11 a45 (Int32.toNatClampNeg v1)) / (10 : Int32)) G11)))) ∧ (¬ v2 = 0 → (hcl G11 v0 0 ∧ hlet (hR G11 v0 5) fun y39 => ∃ a40, y39 = some a40 ∧ (hcl G11 a40 100 ∧ vp_in v1 (hN G11 a40) ∧ (wX4_key_b65 Q ((hI G11 a40 (Int32.toNatClampNeg v1)) - (hI G11 a40 (Int32.toNatClampNeg v1)) / (10 : Int32) * (10 : Int32)) G11))))))))) ((v2).toInt64) (0 : Int64) (4 : Int64) G5))) ((v1).toInt64) (0 : Int64) (25 : Int64) G2
abbrev rmX4_key : Room := { frames := 2, cells := 0, slots := 0, locals := 51 }
def wX4_wholeOf_b98 (Q : hG → Int32 → Prop) (s0 : Int32) (G : hG) : Prop :=
  Q G s0
def wX4_wholeOf_b56 (Q : hG → Int32 → Prop) (r56 : Nat → Int32 → Int32 → Int32 → hG → Prop) (v0 : Nat) (v1 : Int32) (v2 : Int32) (v3 : Int32) (G : hG) : Prop :=
  hcl G v0 0 ∧ (wX4_many (fun G1 z2 => (z2 ≤ v3 → ((v1 = (10 : Int32) → (wX4_wholeOf_b98 Q v2 G1)) ∧ (¬ v1 = (10 : Int32) → (hcl G1 v0 0 ∧ (wX4_wholeOf_b98 Q (hI G1 v0 11) G1))))) ∧ (¬ z2 ≤ v3 → (hcl G1 v0 0 ∧ hlet (hR G1 v0 0) fun y11 => ∃ a12, y11 = some a12 ∧ (hcl G1 a12 101 ∧ vp_in ((55 : Int32) + v3) (hN G1 a12) ∧ (hlet (v2 + (((hJ G1 a12 (Int32.toNatClampNeg ((55 : Int32) + v3)))).toInt32)) fun x15 => r56 v0 v1 x15 (v3 + (1 : Int32)) G1))))) v0 (0 : Int32) G)
def wX4_wholeOf_l56 (Q : hG → Int32 → Prop) (n : Nat) : Nat → Int32 → Int32 → Int32 → hG → Prop := Nat.rec (motive := fun _ => Nat → Int32 → Int32 → Int32 → hG → Prop) (fun _ _ _ _ _ => False) (fun _ ih => wX4_wholeOf_b56 Q ih) n
def wX4_wholeOf (Q : hG → Int32 → Prop) (v0 : Nat) (v1 : Int32) (G : hG) : Prop :=
  ((6 : Int32) ≤ v1 → ((v1 = (6 : Int32) → (hcl G v0 0 ∧ (wX4_many (fun G11 z12 => hcl G11 v0 0 ∧ (wX4_countOf (fun G17 z18 => Q G17 z18) v0 (285 : Int32) z12 (1 : Int64) G11)) v0 (5 : Int32) G))) ∧ (¬ v1 = (6 : Int32) → (((10 : Int32) ≤ v1 → (∃ n, wX4_wholeOf_l56 Q n v0 v1 (0 : Int32) (0 : Int32) G)) ∧ (¬ (10 : Int32) ≤ v1 → (hcl G v0 0 ∧ hlet (hR G v0 0) fun y7 => ∃ a8, y7 = some a8 ∧ (hcl G a8 101 ∧ vp_in (((6 : Int32) + v1) - (7 : Int32)) (hN G a8) ∧ (Q G (((hJ G a8 (Int32.toNatClampNeg (((6 : Int32) + v1) - (7 : Int32))))).toInt32))))))))) ∧ (¬ (6 : Int32) ≤ v1 → (hcl G v0 0 ∧ (wX4_many (fun G23 z24 => Q G23 z24) v0 v1 G)))
abbrev rmX4_wholeOf : Room := { frames := 1, cells := 0, slots := 0, locals := 26 }
def wX4_whole_b30 (Q : hG → Int32 → Prop) (s0 : Int32) (G : hG) : Prop :=
  Q G s0
def wX4_whole (Q : hG → Int32 → Prop) (v0 : Nat) (v1 : Int32) (G : hG) : Prop :=
  hC G v0 = some (0, true) ∧ hlet (hsI G v0 4 (0 : Int32)) fun G2 => wX4_in (fun G5 z6 => (z6 = 0 → (hcl G5 v0 0 ∧ (wX4_fails (fun G11 z12 => wX4_whole_b30 Q z12 G11) v0 (1 : Int32) G5))) ∧ (¬ z6 = 0 → (hcl G5 v0 0 ∧ (wX4_wholeOf (fun G17 z18 => wX4_whole_b30 Q z18 G17) v0 v1 G5)))) ((v1).toInt64) (0 : Int64) (11 : Int64) G2
abbrev rmX4_whole : Room := { frames := 2, cells := 0, slots := 0, locals := 49 }
def wX4_distance_b33 (Q : hG → Int32 → Prop) (s0 : Int32) (G : hG) : Prop :=
  Q G s0
def wX4_distance_b28 (Q : hG → Int32 → Prop) (v0 : Nat) (G : hG) : Prop :=
  hcl G v0 0 ∧ (wX4_fails (fun G1 z2 => wX4_distance_b33 Q z2 G1) v0 (1 : Int32) G)
def wX4_distance (Q : hG → Int32 → Prop) (v0 : Nat) (v1 : Int64) (v3 : Int64) (G : hG) : Prop :=
  hC G v0 = some (0, true) ∧ hlet (hsI G v0 4 (0 : Int32)) fun G2 => wX4_isWord (fun G5 z6 => (z6 = 0 → (wX4_distance_b28 Q v0 G5)) ∧ (¬ z6 = 0 → (wX4_isWord (fun G11 z12 => (z12 = 0 → (wX4_distance_b28 Q v0 G11)) ∧ (¬ z12 = 0 → (hcl G11 v0 0 ∧ (wX4_far (fun G17 z18 => wX4_distance_b33 Q z18 G17) v0 v1 v3 G11)))) v3 G5))) v1 G2
abbrev rmX4_distance : Room := { frames := 3, cells := 0, slots := 0, locals := 81 }
def wX4_caseOf_b25 (Q : hG → Int32 → Prop) (s0 : Int32) (G : hG) : Prop :=
  Q G s0
def wX4_caseOf (Q : hG → Int32 → Prop) (v0 : Nat) (v1 : Int64) (G : hG) : Prop :=
  hC G v0 = some (0, true) ∧ hlet (hsI G v0 4 (0 : Int32)) fun G2 => wX4_isWord (fun G5 z6 => (z6 = 0 → (hcl G5 v0 0 ∧ (wX4_fails (fun G11 z12 => wX4_caseOf_b25 Q z12 G11) v0 (1 : Int32) G5))) ∧ (¬ z6 = 0 → (hcl G5 v0 0 ∧ (wX4_caseFor (fun G17 z18 => wX4_caseOf_b25 Q z18 G17) v0 v1 G5)))) v1 G2
abbrev rmX4_caseOf : Room := { frames := 6, cells := 0, slots := 0, locals := 155 }
def wX4_suggestion_b16 (Q : hG → Int64 → Prop) (v0 : Nat) (G : hG) : Prop :=
  hcl G v0 0 ∧ (wX4_fails (fun G1 z2 => Q G1 ((z2).toInt64)) v0 (1 : Int32) G)
def wX4_suggestion_b98 (Q : hG → Int64 → Prop) (r52 : Nat → Int64 → Int32 → Int32 → Int32 → Int32 → hG → Prop) (v0 : Nat) (v1 : Int64) (v3 : Int32) (v4 : Int32) (v6 : Int32) (s0 : Int32) (s1 : Int32) (G : hG) : Prop :=
  r52 v0 v1 v3 v4 (s0 + s1) (v6 + (1 : Int32)) G
def wX4_suggestion_b97 (Q : hG → Int64 → Prop) (r52 : Nat → Int64 → Int32 → Int32 → Int32 → Int32 → hG → Prop) (v0 : Nat) (v1 : Int64) (v3 : Int32) (v4 : Int32) (v6 : Int32) (s0 : Int32) (G : hG) : Prop :=
  wX4_suggestion_b98 Q r52 v0 v1 v3 v4 v6 s0 (0 : Int32) G
def wX4_suggestion_b124 (Q : hG → Int64 → Prop) (r26 : Nat → Int64 → Int32 → Int32 → hG → Prop) (v0 : Nat) (v1 : Int64) (v3 : Int32) (v4 : Int32) (G : hG) : Prop :=
  r26 v0 v1 v3 (v4 + (1 : Int32)) G
def wX4_suggestion_b52 (Q : hG → Int64 → Prop) (r26 : Nat → Int64 → Int32 → Int32 → hG → Prop) (r52 : Nat → Int64 → Int32 → Int32 → Int32 → Int32 → hG → Prop) (v0 : Nat) (v1 : Int64) (v3 : Int32) (v4 : Int32) (v5 : Int32) (v6 : Int32) (G : hG) : Prop :=
  hcl G v0 0 ∧ (wX4_many (fun G1 z2 => (z2 ≤ v6 → ((v5 = v3 → (hcl G1 v0 0 ∧ hlet (hR G1 v0 0) fun y10 => ∃ a11, y10 = some a11 ∧ (hcl G1 a11 101 ∧ vp_in ((35 : Int32) + v4) (hN G1 a11) ∧ (Q G1 (hJ G1 a11 (Int32.toNatClampNeg ((35 : Int32) + v4))))))) ∧ (¬ v5 = v3 → (wX4_suggestion_b124 Q r26 v0 v1 v3 v4 G1)))) ∧ (¬ z2 ≤ v6 → ((v6 = v4 → (wX4_suggestion_b97 Q r52 v0 v1 v3 v4 v6 v5 G1)) ∧ (¬ v6 = v4 → (hcl G1 v0 0 ∧ (wX4_isSuggested (fun G15 z16 => (z16 = 0 → (wX4_suggestion_b97 Q r52 v0 v1 v3 v4 v6 v5 G15)) ∧ (¬ z16 = 0 → (hcl G15 v0 0 ∧ (wX4_isAhead (fun G22 z23 => (z23 = 0 → (wX4_suggestion_b97 Q r52 v0 v1 v3 v4 v6 v5 G22)) ∧ (¬ z23 = 0 → (wX4_suggestion_b98 Q r52 v0 v1 v3 v4 v6 v5 (1 : Int32) G22))) v0 v1 v6 v4 G15)))) v0 v1 v6 G1)))))) v0 (0 : Int32) G)
def wX4_suggestion_l52 (Q : hG → Int64 → Prop) (r26 : Nat → Int64 → Int32 → Int32 → hG → Prop) (n : Nat) : Nat → Int64 → Int32 → Int32 → Int32 → Int32 → hG → Prop := Nat.rec (motive := fun _ => Nat → Int64 → Int32 → Int32 → Int32 → Int32 → hG → Prop) (fun _ _ _ _ _ _ _ => False) (fun _ ih => wX4_suggestion_b52 Q r26 ih) n
def wX4_suggestion_b26 (Q : hG → Int64 → Prop) (r26 : Nat → Int64 → Int32 → Int32 → hG → Prop) (v0 : Nat) (v1 : Int64) (v3 : Int32) (v4 : Int32) (G : hG) : Prop :=
  hcl G v0 0 ∧ (wX4_many (fun G1 z2 => (z2 ≤ v4 → (Q G1 (-1 : Int64))) ∧ (¬ z2 ≤ v4 → (hcl G1 v0 0 ∧ (wX4_isSuggested (fun G8 z9 => (z9 = 0 → (wX4_suggestion_b124 Q r26 v0 v1 v3 v4 G8)) ∧ (¬ z9 = 0 → (∃ n, wX4_suggestion_l52 Q r26 n v0 v1 v3 v4 (0 : Int32) (0 : Int32) G8))) v0 v1 v4 G1)))) v0 (0 : Int32) G)
def wX4_suggestion_l26 (Q : hG → Int64 → Prop) (n : Nat) : Nat → Int64 → Int32 → Int32 → hG → Prop := Nat.rec (motive := fun _ => Nat → Int64 → Int32 → Int32 → hG → Prop) (fun _ _ _ _ _ => False) (fun _ ih => wX4_suggestion_b26 Q ih) n
def wX4_suggestion (Q : hG → Int64 → Prop) (v0 : Nat) (v1 : Int64) (v3 : Int32) (G : hG) : Prop :=
  hC G v0 = some (0, true) ∧ hlet (hsI G v0 4 (0 : Int32)) fun G2 => wX4_isWord (fun G5 z6 => (z6 = 0 → (wX4_suggestion_b16 Q v0 G5)) ∧ (¬ z6 = 0 → ((0 ≤ v3 → (∃ n, wX4_suggestion_l26 Q n v0 v1 v3 (0 : Int32) G5)) ∧ (¬ 0 ≤ v3 → (wX4_suggestion_b16 Q v0 G5))))) v1 G2
abbrev rmX4_suggestion : Room := { frames := 4, cells := 0, slots := 0, locals := 107 }
def wX4_reason_b19 (Q : hG → Int32 → Prop) (v0 : Nat) (G : hG) : Prop :=
  hcl G v0 0 ∧ (wX4_fails (fun G1 z2 => Q G1 z2) v0 (1 : Int32) G)
def wX4_reason_b74 (Q : hG → Int32 → Prop) (s0 : Int32) (G : hG) : Prop :=
  Q G s0
def wX4_reason (Q : hG → Int32 → Prop) (v0 : Nat) (v1 : Int64) (v3 : Int64) (G : hG) : Prop :=
  hC G v0 = some (0, true) ∧ hlet (hsI G v0 4 (0 : Int32)) fun G2 => wX4_isWord (fun G5 z6 => (z6 = 0 → (wX4_reason_b19 Q v0 G5)) ∧ (¬ z6 = 0 → (wX4_isWord (fun G11 z12 => (z12 = 0 → (wX4_reason_b19 Q v0 G11)) ∧ (¬ z12 = 0 → (hcl G11 v0 0 ∧ (wX4_place (fun G17 z18 => (z18 = (-1 : Int32) → (wX4_reason_b74 Q (1 : Int32) G17)) ∧ (¬ z18 = (-1 : Int32) → (hcl G17 v0 0 ∧ (wX4_isBanned (fun G24 z25 => (z25 = 0 → (hcl G24 v0 0 ∧ (wX4_far (fun G31 z32 => hcl G31 v0 0 ∧ hlet (hR G31 v0 0) fun y38 => ∃ a39, y38 = some a39 ∧ (hcl G31 a39 101 ∧ vp_in (6 : Int32) (hN G31 a39) ∧ ((((z32).toInt64) ≤ (hJ G31 a39 (Int32.toNatClampNeg (6 : Int32))) → (wX4_reason_b74 Q (0 : Int32) G31)) ∧ (¬ ((z32).toInt64) ≤ (hJ G31 a39 (Int32.toNatClampNeg (6 : Int32))) → (wX4_reason_b74 Q (3 : Int32) G31))))) v0 v1 v3 G24))) ∧ (¬ z25 = 0 → (wX4_reason_b74 Q (2 : Int32) G24))) v0 v1 v3 G17)))) v0 v3 G11)))) v3 G5))) v1 G2
abbrev rmX4_reason : Room := { frames := 3, cells := 0, slots := 0, locals := 81 }
def wX4_riskOf_b63 (Q : hG → Int32 → Prop) (r5 : Nat → Int64 → Int32 → Int32 → hG → Prop) (v0 : Nat) (v1 : Int64) (v4 : Int32) (s0 : Int32) (s1 : Int32) (G : hG) : Prop :=
  r5 v0 v1 (s0 + s1) (v4 + (1 : Int32)) G
def wX4_riskOf_b62 (Q : hG → Int32 → Prop) (r5 : Nat → Int64 → Int32 → Int32 → hG → Prop) (v0 : Nat) (v1 : Int64) (v4 : Int32) (s0 : Int32) (G : hG) : Prop :=
  wX4_riskOf_b63 Q r5 v0 v1 v4 s0 (0 : Int32) G
def wX4_riskOf_b5 (Q : hG → Int32 → Prop) (r5 : Nat → Int64 → Int32 → Int32 → hG → Prop) (v0 : Nat) (v1 : Int64) (v3 : Int32) (v4 : Int32) (G : hG) : Prop :=
  hcl G v0 0 ∧ (wX4_many (fun G1 z2 => (z2 ≤ v4 → (Q G1 v3)) ∧ (¬ z2 ≤ v4 → (hcl G1 v0 0 ∧ hlet (hR G1 v0 0) fun y9 => ∃ a10, y9 = some a10 ∧ (hcl G1 a10 101 ∧ vp_in ((35 : Int32) + v4) (hN G1 a10) ∧ (((hJ G1 a10 (Int32.toNatClampNeg ((35 : Int32) + v4))) = v1 → (wX4_riskOf_b62 Q r5 v0 v1 v4 v3 G1)) ∧ (¬ (hJ G1 a10 (Int32.toNatClampNeg ((35 : Int32) + v4))) = v1 → (hcl G1 v0 0 ∧ hlet (hR G1 v0 0) fun y15 => ∃ a16, y15 = some a16 ∧ (hcl G1 a16 101 ∧ vp_in ((35 : Int32) + v4) (hN G1 a16) ∧ (hcl G1 v0 0 ∧ (wX4_far (fun G19 z20 => hcl G19 v0 0 ∧ hlet (hR G19 v0 0) fun y26 => ∃ a27, y26 = some a27 ∧ (hcl G19 a27 101 ∧ vp_in (6 : Int32) (hN G19 a27) ∧ (((hJ G19 a27 (Int32.toNatClampNeg (6 : Int32))) < ((z20).toInt64) → (wX4_riskOf_b62 Q r5 v0 v1 v4 v3 G19)) ∧ (¬ (hJ G19 a27 (Int32.toNatClampNeg (6 : Int32))) < ((z20).toInt64) → (wX4_riskOf_b63 Q r5 v0 v1 v4 v3 (1 : Int32) G19))))) v0 v1 (hJ G1 a16 (Int32.toNatClampNeg ((35 : Int32) + v4))) G1)))))))))) v0 (0 : Int32) G)
def wX4_riskOf_l5 (Q : hG → Int32 → Prop) (n : Nat) : Nat → Int64 → Int32 → Int32 → hG → Prop := Nat.rec (motive := fun _ => Nat → Int64 → Int32 → Int32 → hG → Prop) (fun _ _ _ _ _ => False) (fun _ ih => wX4_riskOf_b5 Q ih) n
def wX4_riskOf (Q : hG → Int32 → Prop) (v0 : Nat) (v1 : Int64) (G : hG) : Prop :=
  ∃ n, wX4_riskOf_l5 Q n v0 v1 (0 : Int32) (0 : Int32) G
abbrev rmX4_riskOf : Room := { frames := 3, cells := 0, slots := 0, locals := 81 }
def wX4_risk_b25 (Q : hG → Int32 → Prop) (s0 : Int32) (G : hG) : Prop :=
  Q G s0
def wX4_risk (Q : hG → Int32 → Prop) (v0 : Nat) (v1 : Int64) (G : hG) : Prop :=
  hC G v0 = some (0, true) ∧ hlet (hsI G v0 4 (0 : Int32)) fun G2 => wX4_isWord (fun G5 z6 => (z6 = 0 → (hcl G5 v0 0 ∧ (wX4_fails (fun G11 z12 => wX4_risk_b25 Q z12 G11) v0 (1 : Int32) G5))) ∧ (¬ z6 = 0 → (hcl G5 v0 0 ∧ (wX4_riskOf (fun G17 z18 => wX4_risk_b25 Q z18 G17) v0 v1 G5)))) v1 G2
abbrev rmX4_risk : Room := { frames := 4, cells := 0, slots := 0, locals := 105 }
def wX4_riskiest_b73 (Q : hG → Int64 → Prop) (r14 : Nat → Int64 → Int32 → Int32 → hG → Prop) (v0 : Nat) (v1 : Int64) (v4 : Int32) (s0 : Int32) (G : hG) : Prop :=
  r14 v0 v1 s0 (v4 + (1 : Int32)) G
def wX4_riskiest_b60 (Q : hG → Int64 → Prop) (r14 : Nat → Int64 → Int32 → Int32 → hG → Prop) (v0 : Nat) (v3 : Int32) (v4 : Int32) (v5 : Int32) (s0 : Int64) (G : hG) : Prop :=
  (v5 ≤ v3 → (wX4_riskiest_b73 Q r14 v0 s0 v4 v3 G)) ∧ (¬ v5 ≤ v3 → (wX4_riskiest_b73 Q r14 v0 s0 v4 v5 G))
def wX4_riskiest_b14 (Q : hG → Int64 → Prop) (r14 : Nat → Int64 → Int32 → Int32 → hG → Prop) (v0 : Nat) (v1 : Int64) (v3 : Int32) (v4 : Int32) (G : hG) : Prop :=
  hcl G v0 0 ∧ (wX4_many (fun G1 z2 => (z2 ≤ v4 → (Q G1 v1)) ∧ (¬ z2 ≤ v4 → (hcl G1 v0 0 ∧ hlet (hR G1 v0 0) fun y9 => ∃ a10, y9 = some a10 ∧ (hcl G1 a10 101 ∧ vp_in ((35 : Int32) + v4) (hN G1 a10) ∧ (hcl G1 v0 0 ∧ (wX4_riskOf (fun G13 z14 => (z14 ≤ v3 → (wX4_riskiest_b60 Q r14 v0 v3 v4 z14 v1 G13)) ∧ (¬ z14 ≤ v3 → (hcl G13 v0 0 ∧ hlet (hR G13 v0 0) fun y22 => ∃ a23, y22 = some a23 ∧ (hcl G13 a23 101 ∧ vp_in ((35 : Int32) + v4) (hN G13 a23) ∧ (wX4_riskiest_b60 Q r14 v0 v3 v4 z14 (hJ G13 a23 (Int32.toNatClampNeg ((35 : Int32) + v4))) G13))))) v0 (hJ G1 a10 (Int32.toNatClampNeg ((35 : Int32) + v4))) G1)))))) v0 (0 : Int32) G)
def wX4_riskiest_l14 (Q : hG → Int64 → Prop) (n : Nat) : Nat → Int64 → Int32 → Int32 → hG → Prop := Nat.rec (motive := fun _ => Nat → Int64 → Int32 → Int32 → hG → Prop) (fun _ _ _ _ _ => False) (fun _ ih => wX4_riskiest_b14 Q ih) n
def wX4_riskiest (Q : hG → Int64 → Prop) (v0 : Nat) (G : hG) : Prop :=
  hC G v0 = some (0, true) ∧ hlet (hsI G v0 4 (0 : Int32)) fun G2 => ∃ n, wX4_riskiest_l14 Q n v0 (-1 : Int64) (-1 : Int32) (0 : Int32) G2
abbrev rmX4_riskiest : Room := { frames := 4, cells := 0, slots := 0, locals := 105 }
def wX4_bestDropping_b19 (Q : hG → Int32 → Prop) (v0 : Nat) (G : hG) : Prop :=
  hcl G v0 0 ∧ (wX4_fails (fun G1 z2 => Q G1 z2) v0 (1 : Int32) G)
def wX4_bestDropping_b100 (Q : hG → Int32 → Prop) (r36 : Nat → Int64 → Int64 → Int32 → Int32 → Int32 → hG → Prop) (v0 : Nat) (v1 : Int64) (v3 : Int64) (v6 : Int32) (v7 : Int32) (v10 : Int32) (s0 : Int32) (G : hG) : Prop :=
  wX4_less (fun G2 z3 => r36 v0 v1 v3 s0 z3 (v7 + (1 : Int32)) G2) v6 v10 G
def wX4_bestDropping_b36 (Q : hG → Int32 → Prop) (r36 : Nat → Int64 → Int64 → Int32 → Int32 → Int32 → hG → Prop) (v0 : Nat) (v1 : Int64) (v3 : Int64) (v5 : Int32) (v6 : Int32) (v7 : Int32) (G : hG) : Prop :=
  ((26 : Int32) ≤ v7 → (Q G (((100 : Int32) * v5) + v6))) ∧ (¬ (26 : Int32) ≤ v7 → (hcl G v0 0 ∧ hlet (hR G v0 0) fun y3 => ∃ a4, y3 = some a4 ∧ (hcl G a4 101 ∧ vp_in ((9 : Int32) + v7) (hN G a4) ∧ (hcl G v0 0 ∧ hlet (hR G v0 0) fun y9 => ∃ a10, y9 = some a10 ∧ (hC G a10 = some (101, true) ∧ vp_in ((9 : Int32) + v7) (hN G a10) ∧ hlet (hsJ G a10 (Int32.toNatClampNeg ((9 : Int32) + v7)) (1 : Int64)) fun G13 => hcl G13 v0 0 ∧ (wX4_far (fun G16 z17 => hcl G16 v0 0 ∧ hlet (hR G16 v0 0) fun y24 => ∃ a25, y24 = some a25 ∧ (hC G16 a25 = some (101, true) ∧ vp_in ((9 : Int32) + v7) (hN G16 a25) ∧ hlet (hsJ G16 a25 (Int32.toNatClampNeg ((9 : Int32) + v7)) (hJ G a4 (Int32.toNatClampNeg ((9 : Int32) + v7)))) fun G28 => (v6 ≤ z17 → (wX4_bestDropping_b100 Q r36 v0 v1 v3 v6 v7 z17 v5 G28)) ∧ (¬ v6 ≤ z17 → (wX4_bestDropping_b100 Q r36 v0 v1 v3 v6 v7 z17 v7 G28)))) v0 v1 v3 G13))))))
def wX4_bestDropping_l36 (Q : hG → Int32 → Prop) (n : Nat) : Nat → Int64 → Int64 → Int32 → Int32 → Int32 → hG → Prop := Nat.rec (motive := fun _ => Nat → Int64 → Int64 → Int32 → Int32 → Int32 → hG → Prop) (fun _ _ _ _ _ _ _ => False) (fun _ ih => wX4_bestDropping_b36 Q ih) n
def wX4_bestDropping (Q : hG → Int32 → Prop) (v0 : Nat) (v1 : Int64) (v3 : Int64) (G : hG) : Prop :=
  hC G v0 = some (0, true) ∧ hlet (hsI G v0 4 (0 : Int32)) fun G2 => wX4_isWord (fun G5 z6 => (z6 = 0 → (wX4_bestDropping_b19 Q v0 G5)) ∧ (¬ z6 = 0 → (wX4_isWord (fun G11 z12 => (z12 = 0 → (wX4_bestDropping_b19 Q v0 G11)) ∧ (¬ z12 = 0 → (∃ n, wX4_bestDropping_l36 Q n v0 v1 v3 (0 : Int32) (1000 : Int32) (0 : Int32) G11))) v3 G5))) v1 G2
abbrev rmX4_bestDropping : Room := { frames := 3, cells := 0, slots := 0, locals := 81 }
def wX4_type (Q : hG → Int32 → Prop) (v0 : Nat) (v1 : Int32) (G : hG) : Prop :=
  hC G v0 = some (0, true) ∧ hlet (hsI G v0 4 (0 : Int32)) fun G2 => wX4_in (fun G5 z6 => (z6 = 0 → (hcl G5 v0 0 ∧ (wX4_fails (fun G34 z35 => Q G34 z35) v0 (1 : Int32) G5))) ∧ (¬ z6 = 0 → (hcl G5 v0 0 ∧ (((hI G5 v0 11) = (150 : Int32) → (hcl G5 v0 0 ∧ (wX4_fails (fun G28 z29 => Q G28 z29) v0 (2 : Int32) G5))) ∧ (¬ (hI G5 v0 11) = (150 : Int32) → (hcl G5 v0 0 ∧ hlet (hR G5 v0 10) fun y14 => hcl G5 v0 0 ∧ (∃ a16, y14 = some a16 ∧ (hC G5 a16 = some (100, true) ∧ vp_in (hI G5 v0 11) (hN G5 a16) ∧ hlet (hsI G5 a16 (Int32.toNatClampNeg (hI G5 v0 11)) v1) fun G19 => hcl G19 v0 0 ∧ (hC G19 v0 = some (0, true) ∧ hlet (hsI G19 v0 11 ((hI G19 v0 11) + (1 : Int32))) fun G24 => hcl G24 v0 0 ∧ (Q G24 (hI G24 v0 11))))))))))) ((v1).toInt64) (0 : Int64) (127 : Int64) G2
abbrev rmX4_type : Room := { frames := 1, cells := 0, slots := 0, locals := 25 }
def wX4_clearCommands (Q : hG → Int32 → Prop) (v0 : Nat) (G : hG) : Prop :=
  hC G v0 = some (0, true) ∧ hlet (hsI G v0 4 (0 : Int32)) fun G2 => hcl G2 v0 0 ∧ (hC G2 v0 = some (0, true) ∧ hlet (hsI G2 v0 11 (0 : Int32)) fun G8 => Q G8 (hI G2 v0 11))
abbrev rmX4_clearCommands : Room := { frames := 0, cells := 0, slots := 0, locals := 0 }
def wX4_isAt_b36 (Q : hG → Int32 → Prop) (s0 : Int32) (G : hG) : Prop :=
  hFt .boolean s0 ∧ Q G s0
def wX4_isAt_b35 (Q : hG → Int32 → Prop)  (G : hG) : Prop :=
  wX4_isAt_b36 Q (0 : Int32) G
def wX4_isAt (Q : hG → Int32 → Prop) (v0 : Nat) (v1 : Int32) (v2 : Int32) (G : hG) : Prop :=
  hcl G v0 0 ∧ (hcl G v0 0 ∧ (((hI G v0 11) ≤ (hI G v0 12) → (wX4_isAt_b35 Q G)) ∧ (¬ (hI G v0 11) ≤ (hI G v0 12) → (hcl G v0 0 ∧ hlet (hR G v0 10) fun y5 => hcl G v0 0 ∧ (∃ a7, y5 = some a7 ∧ (hcl G a7 100 ∧ vp_in (hI G v0 12) (hN G a7) ∧ (wX4_in (fun G10 z11 => (z11 = 0 → (wX4_isAt_b35 Q G10)) ∧ (¬ z11 = 0 → (wX4_isAt_b36 Q (1 : Int32) G10))) (((hI G a7 (Int32.toNatClampNeg (hI G v0 12)))).toInt64) ((v1).toInt64) ((v2).toInt64) G)))))))
abbrev rmX4_isAt : Room := { frames := 1, cells := 0, slots := 0, locals := 25 }
def wX4_skips_b0 (Q : hG → Prop) (r0 : Nat → hG → Prop) (v0 : Nat) (G : hG) : Prop :=
  hcl G v0 0 ∧ (wX4_isAt (fun G1 z2 => (z2 = 0 → (Q G1)) ∧ (¬ z2 = 0 → (hcl G1 v0 0 ∧ (hC G1 v0 = some (0, true) ∧ hlet (hsI G1 v0 12 ((hI G1 v0 12) + (1 : Int32))) fun G10 => r0 v0 G10)))) v0 (32 : Int32) (32 : Int32) G)
def wX4_skips_l0 (Q : hG → Prop) (n : Nat) : Nat → hG → Prop := Nat.rec (motive := fun _ => Nat → hG → Prop) (fun _ _ => False) (fun _ ih => wX4_skips_b0 Q ih) n
def wX4_skips (Q : hG → Prop) (v0 : Nat) (G : hG) : Prop :=
  ∃ n, wX4_skips_l0 Q n v0 G
abbrev rmX4_skips : Room := { frames := 2, cells := 0, slots := 0, locals := 47 }
def wX4_verbOf_b29 (Q : hG → Int32 → Prop) (s0 : Int32) (G : hG) : Prop :=
  Q G s0
def wX4_verbOf_b16 (Q : hG → Int32 → Prop) (v0 : Int64) (G : hG) : Prop :=
  (v0 = (769604 : Int64) → (wX4_verbOf_b29 Q (0 : Int32) G)) ∧ (¬ v0 = (769604 : Int64) → (wX4_verbOf_b29 Q (1 : Int32) G))
def wX4_verbOf_b59 (Q : hG → Int32 → Prop) (s0 : Int32) (G : hG) : Prop :=
  Q G s0
def wX4_verbOf_b46 (Q : hG → Int32 → Prop) (v0 : Int64) (G : hG) : Prop :=
  (v0 = (460197 : Int64) → (wX4_verbOf_b59 Q (2 : Int32) G)) ∧ (¬ v0 = (460197 : Int64) → (wX4_verbOf_b59 Q (3 : Int32) G))
def wX4_verbOf_b89 (Q : hG → Int32 → Prop) (s0 : Int32) (G : hG) : Prop :=
  Q G s0
def wX4_verbOf_b76 (Q : hG → Int32 → Prop) (v0 : Int64) (G : hG) : Prop :=
  (v0 = (66667 : Int64) → (wX4_verbOf_b89 Q (4 : Int32) G)) ∧ (¬ v0 = (66667 : Int64) → (wX4_verbOf_b89 Q (5 : Int32) G))
def wX4_verbOf_b117 (Q : hG → Int32 → Prop) (s0 : Int32) (G : hG) : Prop :=
  Q G s0
def wX4_verbOf (Q : hG → Int32 → Prop) (v0 : Int64) (G : hG) : Prop :=
  (v0 = (769604 : Int64) → (wX4_verbOf_b16 Q v0 G)) ∧ (¬ v0 = (769604 : Int64) → ((v0 = (150000 : Int64) → (wX4_verbOf_b16 Q v0 G)) ∧ (¬ v0 = (150000 : Int64) → ((v0 = (460197 : Int64) → (wX4_verbOf_b46 Q v0 G)) ∧ (¬ v0 = (460197 : Int64) → ((v0 = (681477 : Int64) → (wX4_verbOf_b46 Q v0 G)) ∧ (¬ v0 = (681477 : Int64) → ((v0 = (66667 : Int64) → (wX4_verbOf_b76 Q v0 G)) ∧ (¬ v0 = (66667 : Int64) → ((v0 = (1454583 : Int64) → (wX4_verbOf_b76 Q v0 G)) ∧ (¬ v0 = (1454583 : Int64) → ((v0 = (20587627 : Int64) → (wX4_verbOf_b117 Q (6 : Int32) G)) ∧ (¬ v0 = (20587627 : Int64) → ((v0 = (19636 : Int64) → (wX4_verbOf_b117 Q (7 : Int32) G)) ∧ (¬ v0 = (19636 : Int64) → (wX4_verbOf_b117 Q (-1 : Int32) G))))))))))))))))
abbrev rmX4_verbOf : Room := { frames := 0, cells := 0, slots := 0, locals := 0 }
def wX4_verb_b55 (Q : hG → Int32 → Prop) (r7 : Nat → Int32 → Int64 → hG → Prop) (v0 : Nat) (v1 : Int32) (s0 : Int64) (G : hG) : Prop :=
  hcl G v0 0 ∧ (hC G v0 = some (0, true) ∧ hlet (hsI G v0 12 ((hI G v0 12) + (1 : Int32))) fun G4 => r7 v0 v1 s0 G4)
def wX4_verb_b105 (Q : hG → Int32 → Prop) (v4 : Int32) (s0 : Nat) (s1 : Int32) (G : hG) : Prop :=
  hC G s0 = some (0, true) ∧ hlet (hsI G s0 12 s1) fun G2 => Q G2 v4
def wX4_verb_b88 (Q : hG → Int32 → Prop) (v0 : Nat) (v1 : Int32) (s0 : Int32) (G : hG) : Prop :=
  (s0 = (-1 : Int32) → (wX4_verb_b105 Q s0 v0 v1 G)) ∧ (¬ s0 = (-1 : Int32) → (hcl G v0 0 ∧ (wX4_verb_b105 Q s0 v0 (hI G v0 12) G)))
def wX4_verb_b7 (Q : hG → Int32 → Prop) (r7 : Nat → Int32 → Int64 → hG → Prop) (v0 : Nat) (v1 : Int32) (v2 : Int64) (G : hG) : Prop :=
  hcl G v0 0 ∧ (wX4_isAt (fun G1 z2 => (z2 = 0 → (hcl G1 v0 0 ∧ ((((hI G1 v0 12) - v1) ≤ (8 : Int32) → (wX4_verbOf (fun G10 z11 => wX4_verb_b88 Q v0 v1 z11 G10) v2 G1)) ∧ (¬ ((hI G1 v0 12) - v1) ≤ (8 : Int32) → (wX4_verb_b88 Q v0 v1 (-1 : Int32) G1))))) ∧ (¬ z2 = 0 → (hcl G1 v0 0 ∧ (((8 : Int32) ≤ ((hI G1 v0 12) - v1) → (wX4_verb_b55 Q r7 v0 v1 (-1 : Int64) G1)) ∧ (¬ (8 : Int32) ≤ ((hI G1 v0 12) - v1) → (hcl G1 v0 0 ∧ hlet (hR G1 v0 10) fun y18 => hcl G1 v0 0 ∧ (∃ a20, y18 = some a20 ∧ (hcl G1 a20 100 ∧ vp_in (hI G1 v0 12) (hN G1 a20) ∧ (wX4_verb_b55 Q r7 v0 v1 ((((32 : Int64) * v2) + (((hI G1 a20 (Int32.toNatClampNeg (hI G1 v0 12)))).toInt64)) - (96 : Int64)) G1))))))))) v0 (97 : Int32) (122 : Int32) G)
def wX4_verb_l7 (Q : hG → Int32 → Prop) (n : Nat) : Nat → Int32 → Int64 → hG → Prop := Nat.rec (motive := fun _ => Nat → Int32 → Int64 → hG → Prop) (fun _ _ _ _ => False) (fun _ ih => wX4_verb_b7 Q ih) n
def wX4_verb (Q : hG → Int32 → Prop) (v0 : Nat) (G : hG) : Prop :=
  hcl G v0 0 ∧ (∃ n, wX4_verb_l7 Q n v0 (hI G v0 12) (0 : Int64) G)
abbrev rmX4_verb : Room := { frames := 2, cells := 0, slots := 0, locals := 47 }
def wX4_takesNumber_b26 (Q : hG → Int32 → Prop) (s0 : Int32) (G : hG) : Prop :=
  hFt .boolean s0 ∧ Q G s0
def wX4_takesNumber_b21 (Q : hG → Int32 → Prop)  (G : hG) : Prop :=
  wX4_takesNumber_b26 Q (1 : Int32) G
def wX4_takesNumber_b25 (Q : hG → Int32 → Prop)  (G : hG) : Prop :=
  wX4_takesNumber_b26 Q (0 : Int32) G
def wX4_takesNumber (Q : hG → Int32 → Prop) (v0 : Int32) (v1 : Int32) (G : hG) : Prop :=
  (v0 = (7 : Int32) → (wX4_takesNumber_b21 Q G)) ∧ (¬ v0 = (7 : Int32) → ((v1 = (1 : Int32) → ((v0 = 0 → (wX4_takesNumber_b21 Q G)) ∧ (¬ v0 = 0 → ((v0 = (6 : Int32) → (wX4_takesNumber_b21 Q G)) ∧ (¬ v0 = (6 : Int32) → (wX4_takesNumber_b25 Q G)))))) ∧ (¬ v1 = (1 : Int32) → (wX4_takesNumber_b25 Q G))))
abbrev rmX4_takesNumber : Room := { frames := 0, cells := 0, slots := 0, locals := 0 }
def wX4_argument_b131 (Q : hG → Int32 → Prop) (r61 : Nat → Int32 → Int32 → Int32 → Int32 → Int32 → hG → Prop) (v0 : Nat) (v1 : Int32) (v2 : Int32) (v3 : Int32) (v4 : Int32) (v5 : Int32) (s0 : Nat) (s1 : Int64) (G : hG) : Prop :=
  hC G s0 = some (0, true) ∧ hlet (hsJ G s0 17 s1) fun G2 => hcl G2 v0 0 ∧ (hC G2 v0 = some (0, true) ∧ hlet (hsI G2 v0 12 ((hI G2 v0 12) + (1 : Int32))) fun G7 => r61 v0 v1 v2 v3 v4 (v5 + (1 : Int32)) G7)
def wX4_argument_b169 (Q : hG → Int32 → Prop) (s0 : Int32) (G : hG) : Prop :=
  hFt .boolean s0 ∧ Q G s0
def wX4_argument_b168 (Q : hG → Int32 → Prop)  (G : hG) : Prop :=
  wX4_argument_b169 Q (0 : Int32) G
def wX4_argument_b150 (Q : hG → Int32 → Prop) (v0 : Nat) (v2 : Int32) (v3 : Int32) (v5 : Int32) (G : hG) : Prop :=
  (v5 ≤ 0 → (wX4_argument_b168 Q G)) ∧ (¬ v5 ≤ 0 → (hcl G v0 0 ∧ (wX4_isAt (fun G2 z3 => (z3 = 0 → (wX4_argument_b169 Q (1 : Int32) G2)) ∧ (¬ z3 = 0 → (wX4_argument_b168 Q G2))) v0 v2 v3 G)))
def wX4_argument_b61 (Q : hG → Int32 → Prop) (r61 : Nat → Int32 → Int32 → Int32 → Int32 → Int32 → hG → Prop) (v0 : Nat) (v1 : Int32) (v2 : Int32) (v3 : Int32) (v4 : Int32) (v5 : Int32) (G : hG) : Prop :=
  (v4 ≤ v5 → (wX4_argument_b150 Q v0 v2 v3 v5 G)) ∧ (¬ v4 ≤ v5 → (hcl G v0 0 ∧ (wX4_isAt (fun G2 z3 => (z3 = 0 → (wX4_argument_b150 Q v0 v2 v3 v5 G2)) ∧ (¬ z3 = 0 → ((v1 = 0 → (hcl G2 v0 0 ∧ (hcl G2 v0 0 ∧ hlet (hR G2 v0 10) fun y12 => hcl G2 v0 0 ∧ (∃ a14, y12 = some a14 ∧ (hcl G2 a14 100 ∧ vp_in (hI G2 v0 12) (hN G2 a14) ∧ (wX4_argument_b131 Q r61 v0 v1 v2 v3 v4 v5 v0 ((((32 : Int64) * (hJ G2 v0 17)) + (((hI G2 a14 (Int32.toNatClampNeg (hI G2 v0 12)))).toInt64)) - (96 : Int64)) G2)))))) ∧ (¬ v1 = 0 → (hcl G2 v0 0 ∧ (hcl G2 v0 0 ∧ hlet (hR G2 v0 10) fun y19 => hcl G2 v0 0 ∧ (∃ a21, y19 = some a21 ∧ (hcl G2 a21 100 ∧ vp_in (hI G2 v0 12) (hN G2 a21) ∧ (wX4_argument_b131 Q r61 v0 v1 v2 v3 v4 v5 v0 ((((10 : Int64) * (hJ G2 v0 17)) + (((hI G2 a21 (Int32.toNatClampNeg (hI G2 v0 12)))).toInt64)) - (48 : Int64)) G2))))))))) v0 v2 v3 G)))
def wX4_argument_l61 (Q : hG → Int32 → Prop) (n : Nat) : Nat → Int32 → Int32 → Int32 → Int32 → Int32 → hG → Prop := Nat.rec (motive := fun _ => Nat → Int32 → Int32 → Int32 → Int32 → Int32 → hG → Prop) (fun _ _ _ _ _ _ _ => False) (fun _ ih => wX4_argument_b61 Q ih) n
def wX4_argument_b51 (Q : hG → Int32 → Prop) (v0 : Nat) (v1 : Int32) (v2 : Int32) (v3 : Int32) (s0 : Int32) (G : hG) : Prop :=
  hC G v0 = some (0, true) ∧ hlet (hsJ G v0 17 (0 : Int64)) fun G4 => ∃ n, wX4_argument_l61 Q n v0 v1 v2 v3 s0 (0 : Int32) G4
def wX4_argument_b40 (Q : hG → Int32 → Prop) (v0 : Nat) (v1 : Int32) (v2 : Int32) (s0 : Int32) (G : hG) : Prop :=
  (v1 = 0 → (wX4_argument_b51 Q v0 v1 v2 s0 (8 : Int32) G)) ∧ (¬ v1 = 0 → (wX4_argument_b51 Q v0 v1 v2 s0 (3 : Int32) G))
def wX4_argument_b28 (Q : hG → Int32 → Prop) (v0 : Nat) (v1 : Int32) (s0 : Int32) (G : hG) : Prop :=
  (v1 = 0 → (wX4_argument_b40 Q v0 v1 s0 (122 : Int32) G)) ∧ (¬ v1 = 0 → (wX4_argument_b40 Q v0 v1 s0 (57 : Int32) G))
def wX4_argument (Q : hG → Int32 → Prop) (v0 : Nat) (v1 : Int32) (G : hG) : Prop :=
  hcl G v0 0 ∧ (wX4_isAt (fun G1 z2 => (z2 = 0 → (Q G1 (0 : Int32))) ∧ (¬ z2 = 0 → (hcl G1 v0 0 ∧ (wX4_skips (fun G8 => (v1 = 0 → (wX4_argument_b28 Q v0 v1 (97 : Int32) G8)) ∧ (¬ v1 = 0 → (wX4_argument_b28 Q v0 v1 (48 : Int32) G8))) v0 G1)))) v0 (32 : Int32) (32 : Int32) G)
abbrev rmX4_argument : Room := { frames := 3, cells := 0, slots := 0, locals := 67 }
def wX4_reads_b120 (Q : hG → Int32 → Prop) (r73 : Nat → Int32 → Int32 → Int32 → hG → Prop) (v0 : Nat) (v1 : Int32) (v2 : Int32) (v3 : Int32) (s0 : Option Nat) (s1 : Int32) (s2 : Int64) (G : hG) : Prop :=
  ∃ a1, s0 = some a1 ∧ (hC G a1 = some (101, true) ∧ vp_in s1 (hN G a1) ∧ hlet (hsJ G a1 (Int32.toNatClampNeg s1) s2) fun G4 => hcl G4 v0 0 ∧ hlet (hR G4 v0 15) fun y8 => hcl G4 v0 0 ∧ (hcl G4 v0 0 ∧ (∃ a11, y8 = some a11 ∧ (hC G4 a11 = some (101, true) ∧ vp_in (hI G4 v0 16) (hN G4 a11) ∧ hlet (hsJ G4 a11 (Int32.toNatClampNeg (hI G4 v0 16)) (hJ G4 v0 17)) fun G14 => r73 v0 v1 v2 (v3 + (1 : Int32)) G14))))
def wX4_reads_b73 (Q : hG → Int32 → Prop) (r14 : Nat → hG → Prop) (r73 : Nat → Int32 → Int32 → Int32 → hG → Prop) (v0 : Nat) (v1 : Int32) (v2 : Int32) (v3 : Int32) (G : hG) : Prop :=
  (v2 ≤ v3 → (hcl G v0 0 ∧ (wX4_skips (fun G2 => hcl G2 v0 0 ∧ (wX4_isAt (fun G7 z8 => (z8 = 0 → (Q G7 (0 : Int32))) ∧ (¬ z8 = 0 → (hcl G7 v0 0 ∧ (hC G7 v0 = some (0, true) ∧ hlet (hsI G7 v0 12 ((hI G7 v0 12) + (1 : Int32))) fun G16 => hcl G16 v0 0 ∧ (hC G16 v0 = some (0, true) ∧ hlet (hsI G16 v0 16 ((hI G16 v0 16) + (1 : Int32))) fun G21 => hcl G21 v0 0 ∧ (wX4_skips (fun G24 => r14 v0 G24) v0 G21)))))) v0 (59 : Int32) (59 : Int32) G2)) v0 G))) ∧ (¬ v2 ≤ v3 → (wX4_takesNumber (fun G29 z30 => hcl G29 v0 0 ∧ (wX4_argument (fun G34 z35 => (z35 = 0 → (Q G34 (0 : Int32))) ∧ (¬ z35 = 0 → (hcl G34 v0 0 ∧ hlet (hR G34 v0 14) fun y42 => hcl G34 v0 0 ∧ ((v3 = 0 → (hcl G34 v0 0 ∧ (wX4_reads_b120 Q r73 v0 v1 v2 v3 y42 (hI G34 v0 16) (hJ G34 v0 17) G34))) ∧ (¬ v3 = 0 → (hcl G34 v0 0 ∧ hlet (hR G34 v0 14) fun y46 => hcl G34 v0 0 ∧ (∃ a48, y46 = some a48 ∧ (hcl G34 a48 101 ∧ vp_in (hI G34 v0 16) (hN G34 a48) ∧ (wX4_reads_b120 Q r73 v0 v1 v2 v3 y42 (hI G34 v0 16) (hJ G34 a48 (Int32.toNatClampNeg (hI G34 v0 16))) G34))))))))) v0 z30 G29)) v1 v3 G))
def wX4_reads_l73 (Q : hG → Int32 → Prop) (r14 : Nat → hG → Prop) (n : Nat) : Nat → Int32 → Int32 → Int32 → hG → Prop := Nat.rec (motive := fun _ => Nat → Int32 → Int32 → Int32 → hG → Prop) (fun _ _ _ _ _ => False) (fun _ ih => wX4_reads_b73 Q r14 ih) n
def wX4_reads_b60 (Q : hG → Int32 → Prop) (r14 : Nat → hG → Prop) (v0 : Nat) (v1 : Int32) (s0 : Int32) (G : hG) : Prop :=
  hcl G v0 0 ∧ hlet (hR G v0 13) fun y3 => hcl G v0 0 ∧ (∃ a5, y3 = some a5 ∧ (hC G a5 = some (100, true) ∧ vp_in (hI G v0 16) (hN G a5) ∧ hlet (hsI G a5 (Int32.toNatClampNeg (hI G v0 16)) v1) fun G8 => ∃ n, wX4_reads_l73 Q r14 n v0 v1 s0 (0 : Int32) G8))
def wX4_reads_b59 (Q : hG → Int32 → Prop) (r14 : Nat → hG → Prop) (v0 : Nat) (v1 : Int32) (G : hG) : Prop :=
  wX4_reads_b60 Q r14 v0 v1 (2 : Int32) G
def wX4_reads_b14 (Q : hG → Int32 → Prop) (r14 : Nat → hG → Prop) (v0 : Nat) (G : hG) : Prop :=
  hcl G v0 0 ∧ (hcl G v0 0 ∧ (((hI G v0 11) ≤ (hI G v0 12) → (Q G (1 : Int32))) ∧ (¬ (hI G v0 11) ≤ (hI G v0 12) → (hcl G v0 0 ∧ (wX4_verb (fun G4 z5 => (z5 = (-1 : Int32) → (Q G4 (0 : Int32))) ∧ (¬ z5 = (-1 : Int32) → ((z5 = (4 : Int32) → (wX4_reads_b60 Q r14 v0 z5 (0 : Int32) G4)) ∧ (¬ z5 = (4 : Int32) → (((4 : Int32) ≤ z5 → (wX4_reads_b59 Q r14 v0 z5 G4)) ∧ (¬ (4 : Int32) ≤ z5 → ((z5 = 0 → (wX4_reads_b59 Q r14 v0 z5 G4)) ∧ (¬ z5 = 0 → (wX4_reads_b60 Q r14 v0 z5 (1 : Int32) G4))))))))) v0 G)))))
def wX4_reads_l14 (Q : hG → Int32 → Prop) (n : Nat) : Nat → hG → Prop := Nat.rec (motive := fun _ => Nat → hG → Prop) (fun _ _ => False) (fun _ ih => wX4_reads_b14 Q ih) n
def wX4_reads (Q : hG → Int32 → Prop) (v0 : Nat) (G : hG) : Prop :=
  hC G v0 = some (0, true) ∧ hlet (hsI G v0 12 (0 : Int32)) fun G2 => hC G2 v0 = some (0, true) ∧ hlet (hsI G2 v0 16 (0 : Int32)) fun G6 => hcl G6 v0 0 ∧ (wX4_skips (fun G9 => ∃ n, wX4_reads_l14 Q n v0 G9) v0 G6)
abbrev rmX4_reads : Room := { frames := 4, cells := 0, slots := 0, locals := 92 }
def wX4_carriesOut_b158 (Q : hG → Prop)  (G : hG) : Prop :=
  Q G
def wX4_carriesOut (Q : hG → Prop) (v0 : Nat) (v1 : Int32) (G : hG) : Prop :=
  hcl G v0 0 ∧ hlet (hR G v0 14) fun y2 => ∃ a3, y2 = some a3 ∧ (hcl G a3 101 ∧ vp_in v1 (hN G a3) ∧ (hcl G v0 0 ∧ hlet (hR G v0 15) fun y8 => ∃ a9, y8 = some a9 ∧ (hcl G a9 101 ∧ vp_in v1 (hN G a9) ∧ (hcl G v0 0 ∧ hlet (hR G v0 13) fun y14 => ∃ a15, y14 = some a15 ∧ (hcl G a15 100 ∧ vp_in v1 (hN G a15) ∧ (((hI G a15 (Int32.toNatClampNeg v1)) = (0 : Int32) → (hcl G v0 0 ∧ (wX4_addWord (fun G19 z20 => wX4_carriesOut_b158 Q G19) v0 (hJ G a3 (Int32.toNatClampNeg v1)) (((hJ G a9 (Int32.toNatClampNeg v1))).toInt32) G))) ∧ ((hI G a15 (Int32.toNatClampNeg v1)) = (1 : Int32) → (hcl G v0 0 ∧ (wX4_dropWord (fun G26 z27 => wX4_carriesOut_b158 Q G26) v0 (hJ G a3 (Int32.toNatClampNeg v1)) G))) ∧ ((hI G a15 (Int32.toNatClampNeg v1)) = (2 : Int32) → (hcl G v0 0 ∧ (wX4_addName (fun G33 z34 => wX4_carriesOut_b158 Q G33) v0 (hJ G a3 (Int32.toNatClampNeg v1)) G))) ∧ ((hI G a15 (Int32.toNatClampNeg v1)) = (3 : Int32) → (hcl G v0 0 ∧ (wX4_correct (fun G40 z41 => wX4_carriesOut_b158 Q G40) v0 (hJ G a3 (Int32.toNatClampNeg v1)) G))) ∧ ((hI G a15 (Int32.toNatClampNeg v1)) = (4 : Int32) → (hcl G v0 0 ∧ (wX4_takeBack (fun G47 z48 => wX4_carriesOut_b158 Q G47) v0 G))) ∧ ((hI G a15 (Int32.toNatClampNeg v1)) = (5 : Int32) → (hcl G v0 0 ∧ (wX4_allow (fun G54 z55 => wX4_carriesOut_b158 Q G54) v0 (hJ G a3 (Int32.toNatClampNeg v1)) (hJ G a9 (Int32.toNatClampNeg v1)) G))) ∧ ((hI G a15 (Int32.toNatClampNeg v1)) = (6 : Int32) → (hcl G v0 0 ∧ hlet (hR G v0 6) fun y62 => ∃ a63, y62 = some a63 ∧ (wX4_lays (fun G64 z65 => hcl G64 v0 0 ∧ hlet (hR G64 v0 6) fun y70 => ∃ a71, y70 = some a71 ∧ (hcl G64 a71 100 ∧ vp_in (0 : Int32) (hN G64 a71) ∧ (hcl G64 v0 0 ∧ (wX4_setStick (fun G74 z75 => wX4_carriesOut_b158 Q G74) v0 (hI G64 a71 (Int32.toNatClampNeg (0 : Int32))) (((hJ G a9 (Int32.toNatClampNeg v1))).toInt32) G64)))) (hJ G a3 (Int32.toNatClampNeg v1)) a63 G))) ∧ (¬ (hI G a15 (Int32.toNatClampNeg v1)) = (0 : Int32) ∧ ¬ (hI G a15 (Int32.toNatClampNeg v1)) = (1 : Int32) ∧ ¬ (hI G a15 (Int32.toNatClampNeg v1)) = (2 : Int32) ∧ ¬ (hI G a15 (Int32.toNatClampNeg v1)) = (3 : Int32) ∧ ¬ (hI G a15 (Int32.toNatClampNeg v1)) = (4 : Int32) ∧ ¬ (hI G a15 (Int32.toNatClampNeg v1)) = (5 : Int32) ∧ ¬ (hI G a15 (Int32.toNatClampNeg v1)) = (6 : Int32) → (hcl G v0 0 ∧ (wX4_set (fun G80 z81 => wX4_carriesOut_b158 Q G80) v0 (((hJ G a3 (Int32.toNatClampNeg v1))).toInt32) (((hJ G a9 (Int32.toNatClampNeg v1))).toInt32) G)))))))))
abbrev rmX4_carriesOut : Room := { frames := 7, cells := 0, slots := 0, locals := 181 }
def wX4_runCommands_b66 (Q : hG → Int32 → Prop) (r33 : Nat → Int32 → Int32 → hG → Prop) (v0 : Nat) (v2 : Int32) (s0 : Int32) (s1 : Int32) (G : hG) : Prop :=
  r33 v0 (s0 + s1) (v2 + (1 : Int32)) G
def wX4_runCommands_b74 (Q : hG → Int32 → Prop) (v0 : Nat) (v1 : Int32) (G : hG) : Prop :=
  hC G v0 = some (0, true) ∧ hlet (hsI G v0 3 (0 : Int32)) fun G2 => hC G2 v0 = some (0, true) ∧ hlet (hsI G2 v0 4 (0 : Int32)) fun G6 => Q G6 v1
def wX4_runCommands_b33 (Q : hG → Int32 → Prop) (r33 : Nat → Int32 → Int32 → hG → Prop) (v0 : Nat) (v1 : Int32) (v2 : Int32) (G : hG) : Prop :=
  hcl G v0 0 ∧ (((hI G v0 16) ≤ v2 → (wX4_runCommands_b74 Q v0 v1 G)) ∧ (¬ (hI G v0 16) ≤ v2 → (hcl G v0 0 ∧ (((hI G v0 4) = 0 → (hcl G v0 0 ∧ (wX4_carriesOut (fun G5 => hcl G5 v0 0 ∧ (((hI G5 v0 4) = 0 → (wX4_runCommands_b66 Q r33 v0 v2 v1 (1 : Int32) G5)) ∧ (¬ (hI G5 v0 4) = 0 → (wX4_runCommands_b66 Q r33 v0 v2 v1 (0 : Int32) G5)))) v0 v2 G))) ∧ (¬ (hI G v0 4) = 0 → (wX4_runCommands_b74 Q v0 v1 G))))))
def wX4_runCommands_l33 (Q : hG → Int32 → Prop) (n : Nat) : Nat → Int32 → Int32 → hG → Prop := Nat.rec (motive := fun _ => Nat → Int32 → Int32 → hG → Prop) (fun _ _ _ _ => False) (fun _ ih => wX4_runCommands_b33 Q ih) n
def wX4_runCommands (Q : hG → Int32 → Prop) (v0 : Nat) (G : hG) : Prop :=
  hC G v0 = some (0, true) ∧ hlet (hsI G v0 4 (0 : Int32)) fun G2 => hcl G2 v0 0 ∧ (wX4_reads (fun G5 z6 => (z6 = 0 → (hcl G5 v0 0 ∧ (Q G5 ((-10 : Int32) - (hI G5 v0 12))))) ∧ (¬ z6 = 0 → (hcl G5 v0 0 ∧ (wX4_save (fun G12 => hC G12 v0 = some (0, true) ∧ hlet (hsI G12 v0 3 (1 : Int32)) fun G18 => ∃ n, wX4_runCommands_l33 Q n v0 (0 : Int32) (0 : Int32) G18) v0 G5)))) v0 G2)
abbrev rmX4_runCommands : Room := { frames := 8, cells := 0, slots := 0, locals := 206 }
def wX4_undo_b30 (Q : hG → Int32 → Prop) (r30 : Nat → Int32 → hG → Prop) (v0 : Nat) (v1 : Int32) (G : hG) : Prop :=
  ((305 : Int32) ≤ v1 → (hcl G v0 0 ∧ (Q G (hI G v0 2)))) ∧ (¬ (305 : Int32) ≤ v1 → (hcl G v0 0 ∧ hlet (hR G v0 0) fun y4 => hcl G v0 0 ∧ hlet (hR G v0 1) fun y6 => hcl G v0 0 ∧ (∃ a8, y6 = some a8 ∧ (hcl G a8 101 ∧ vp_in (((305 : Int32) * (hI G v0 2)) + v1) (hN G a8) ∧ (∃ a11, y4 = some a11 ∧ (hC G a11 = some (101, true) ∧ vp_in v1 (hN G a11) ∧ hlet (hsJ G a11 (Int32.toNatClampNeg v1) (hJ G a8 (Int32.toNatClampNeg (((305 : Int32) * (hI G v0 2)) + v1)))) fun G14 => r30 v0 (v1 + (1 : Int32)) G14))))))
def wX4_undo_l30 (Q : hG → Int32 → Prop) (n : Nat) : Nat → Int32 → hG → Prop := Nat.rec (motive := fun _ => Nat → Int32 → hG → Prop) (fun _ _ _ => False) (fun _ ih => wX4_undo_b30 Q ih) n
def wX4_undo (Q : hG → Int32 → Prop) (v0 : Nat) (G : hG) : Prop :=
  hC G v0 = some (0, true) ∧ hlet (hsI G v0 4 (0 : Int32)) fun G2 => hcl G2 v0 0 ∧ (((hI G2 v0 2) = 0 → (hcl G2 v0 0 ∧ (wX4_fails (fun G13 z14 => Q G13 z14) v0 (1 : Int32) G2))) ∧ (¬ (hI G2 v0 2) = 0 → (hcl G2 v0 0 ∧ (hC G2 v0 = some (0, true) ∧ hlet (hsI G2 v0 2 ((hI G2 v0 2) - (1 : Int32))) fun G9 => ∃ n, wX4_undo_l30 Q n v0 (0 : Int32) G9))))
abbrev rmX4_undo : Room := { frames := 1, cells := 0, slots := 0, locals := 21 }
def wX4_digest_b102 (Q : hG → Int64 → Prop) (r74 : Nat → Int64 → Int32 → hG → Prop) (r102 : Nat → Int64 → Int32 → Int32 → hG → Prop) (v0 : Nat) (v1 : Int64) (v3 : Int32) (v4 : Int32) (G : hG) : Prop :=
  ((7 : Int32) ≤ v4 → (hcl G v0 0 ∧ hlet (hR G v0 0) fun y3 => ∃ a4, y3 = some a4 ∧ (hcl G a4 101 ∧ vp_in ((35 : Int32) + v3) (hN G a4) ∧ (hcl G v0 0 ∧ (wX4_riskOf (fun G7 z8 => r74 v0 (((31 : Int64) * v1) + ((z8).toInt64)) (v3 + (1 : Int32)) G7) v0 (hJ G a4 (Int32.toNatClampNeg ((35 : Int32) + v3))) G))))) ∧ (¬ (7 : Int32) ≤ v4 → (hcl G v0 0 ∧ hlet (hR G v0 0) fun y16 => ∃ a17, y16 = some a17 ∧ (hcl G a17 101 ∧ vp_in ((35 : Int32) + v3) (hN G a17) ∧ (hcl G v0 0 ∧ (wX4_valueOf (fun G20 z21 => r102 v0 (((31 : Int64) * v1) + ((z21).toInt64)) v3 (v4 + (1 : Int32)) G20) v0 (hJ G a17 (Int32.toNatClampNeg ((35 : Int32) + v3))) v4 G)))))
def wX4_digest_l102 (Q : hG → Int64 → Prop) (r74 : Nat → Int64 → Int32 → hG → Prop) (n : Nat) : Nat → Int64 → Int32 → Int32 → hG → Prop := Nat.rec (motive := fun _ => Nat → Int64 → Int32 → Int32 → hG → Prop) (fun _ _ _ _ _ => False) (fun _ ih => wX4_digest_b102 Q r74 ih) n
def wX4_digest_b252 (Q : hG → Int64 → Prop) (r252 : Nat → Int64 → Int32 → hG → Prop) (v0 : Nat) (v1 : Int64) (v3 : Int32) (G : hG) : Prop :=
  hcl G v0 0 ∧ (wX4_many (fun G1 z2 => (z2 ≤ v3 → (Q G1 v1)) ∧ (¬ z2 ≤ v3 → (hcl G1 v0 0 ∧ (wX4_loggedOf (fun G8 z9 => hcl G8 v0 0 ∧ (wX4_loggedOf (fun G14 z15 => hcl G14 v0 0 ∧ (wX4_loggedOf (fun G20 z21 => hlet (((31 : Int64) * (((31 : Int64) * (((31 : Int64) * v1) + z9)) + z15)) + z21) fun x26 => r252 v0 x26 (v3 + (1 : Int32)) G20) v0 v3 (2 : Int32) G14)) v0 v3 (1 : Int32) G8)) v0 v3 (0 : Int32) G1)))) v0 (5 : Int32) G)
def wX4_digest_l252 (Q : hG → Int64 → Prop) (n : Nat) : Nat → Int64 → Int32 → hG → Prop := Nat.rec (motive := fun _ => Nat → Int64 → Int32 → hG → Prop) (fun _ _ _ _ => False) (fun _ ih => wX4_digest_b252 Q ih) n
def wX4_digest_b200 (Q : hG → Int64 → Prop) (r200 : Nat → Int64 → Int32 → hG → Prop) (v0 : Nat) (v1 : Int64) (v3 : Int32) (G : hG) : Prop :=
  hcl G v0 0 ∧ (wX4_many (fun G1 z2 => (z2 ≤ v3 → (∃ n, wX4_digest_l252 Q n v0 v1 (0 : Int32) G1)) ∧ (¬ z2 ≤ v3 → (hcl G1 v0 0 ∧ (wX4_pairOf (fun G9 z10 => hcl G9 v0 0 ∧ (wX4_pairOf (fun G15 z16 => hcl G15 v0 0 ∧ (wX4_pairOf (fun G21 z22 => hlet (((31 : Int64) * (((31 : Int64) * (((31 : Int64) * v1) + z10)) + z16)) + z22) fun x27 => r200 v0 x27 (v3 + (1 : Int32)) G21) v0 v3 (2 : Int32) G15)) v0 v3 (1 : Int32) G9)) v0 v3 (0 : Int32) G1)))) v0 (2 : Int32) G)
def wX4_digest_l200 (Q : hG → Int64 → Prop) (n : Nat) : Nat → Int64 → Int32 → hG → Prop := Nat.rec (motive := fun _ => Nat → Int64 → Int32 → hG → Prop) (fun _ _ _ _ => False) (fun _ ih => wX4_digest_b200 Q ih) n
def wX4_digest_b167 (Q : hG → Int64 → Prop) (r167 : Nat → Int64 → Int32 → hG → Prop) (v0 : Nat) (v1 : Int64) (v3 : Int32) (G : hG) : Prop :=
  hcl G v0 0 ∧ (wX4_many (fun G1 z2 => (z2 ≤ v3 → (∃ n, wX4_digest_l200 Q n v0 v1 (0 : Int32) G1)) ∧ (¬ z2 ≤ v3 → (hcl G1 v0 0 ∧ hlet (hR G1 v0 0) fun y10 => ∃ a11, y10 = some a11 ∧ (hcl G1 a11 101 ∧ vp_in ((75 : Int32) + v3) (hN G1 a11) ∧ (hlet (((31 : Int64) * v1) + (hJ G1 a11 (Int32.toNatClampNeg ((75 : Int32) + v3)))) fun x14 => r167 v0 x14 (v3 + (1 : Int32)) G1))))) v0 (1 : Int32) G)
def wX4_digest_l167 (Q : hG → Int64 → Prop) (n : Nat) : Nat → Int64 → Int32 → hG → Prop := Nat.rec (motive := fun _ => Nat → Int64 → Int32 → hG → Prop) (fun _ _ _ _ => False) (fun _ ih => wX4_digest_b167 Q ih) n
def wX4_digest_b74 (Q : hG → Int64 → Prop) (r74 : Nat → Int64 → Int32 → hG → Prop) (v0 : Nat) (v1 : Int64) (v3 : Int32) (G : hG) : Prop :=
  hcl G v0 0 ∧ (wX4_many (fun G1 z2 => (z2 ≤ v3 → (∃ n, wX4_digest_l167 Q n v0 v1 (0 : Int32) G1)) ∧ (¬ z2 ≤ v3 → (hcl G1 v0 0 ∧ hlet (hR G1 v0 0) fun y10 => ∃ a11, y10 = some a11 ∧ (hcl G1 a11 101 ∧ vp_in ((35 : Int32) + v3) (hN G1 a11) ∧ (hlet (((31 : Int64) * v1) + (hJ G1 a11 (Int32.toNatClampNeg ((35 : Int32) + v3)))) fun x14 => ∃ n, wX4_digest_l102 Q r74 n v0 x14 v3 (0 : Int32) G1))))) v0 (0 : Int32) G)
def wX4_digest_l74 (Q : hG → Int64 → Prop) (n : Nat) : Nat → Int64 → Int32 → hG → Prop := Nat.rec (motive := fun _ => Nat → Int64 → Int32 → hG → Prop) (fun _ _ _ _ => False) (fun _ ih => wX4_digest_b74 Q ih) n
def wX4_digest_b44 (Q : hG → Int64 → Prop) (r44 : Nat → Int64 → Int32 → hG → Prop) (v0 : Nat) (v1 : Int64) (v3 : Int32) (G : hG) : Prop :=
  ((26 : Int32) ≤ v3 → (∃ n, wX4_digest_l74 Q n v0 v1 (0 : Int32) G)) ∧ (¬ (26 : Int32) ≤ v3 → (hcl G v0 0 ∧ hlet (hR G v0 0) fun y4 => ∃ a5, y4 = some a5 ∧ (hcl G a5 101 ∧ vp_in ((9 : Int32) + v3) (hN G a5) ∧ (hlet (((31 : Int64) * v1) + (hJ G a5 (Int32.toNatClampNeg ((9 : Int32) + v3)))) fun x8 => r44 v0 x8 (v3 + (1 : Int32)) G))))
def wX4_digest_l44 (Q : hG → Int64 → Prop) (n : Nat) : Nat → Int64 → Int32 → hG → Prop := Nat.rec (motive := fun _ => Nat → Int64 → Int32 → hG → Prop) (fun _ _ _ _ => False) (fun _ ih => wX4_digest_b44 Q ih) n
def wX4_digest_b17 (Q : hG → Int64 → Prop) (r17 : Nat → Int64 → Int32 → hG → Prop) (v0 : Nat) (v1 : Int64) (v3 : Int32) (G : hG) : Prop :=
  ((12 : Int32) ≤ v3 → (∃ n, wX4_digest_l44 Q n v0 v1 (0 : Int32) G)) ∧ (¬ (12 : Int32) ≤ v3 → (hcl G v0 0 ∧ (wX4_wholeOf (fun G3 z4 => r17 v0 (((31 : Int64) * v1) + ((z4).toInt64)) (v3 + (1 : Int32)) G3) v0 v3 G)))
def wX4_digest_l17 (Q : hG → Int64 → Prop) (n : Nat) : Nat → Int64 → Int32 → hG → Prop := Nat.rec (motive := fun _ => Nat → Int64 → Int32 → hG → Prop) (fun _ _ _ _ => False) (fun _ ih => wX4_digest_b17 Q ih) n
def wX4_digest (Q : hG → Int64 → Prop) (v0 : Nat) (G : hG) : Prop :=
  hC G v0 = some (0, true) ∧ hlet (hsI G v0 4 (0 : Int32)) fun G2 => hcl G2 v0 0 ∧ (∃ n, wX4_digest_l17 Q n v0 ((1342424 : Int64) + (((hI G2 v0 2)).toInt64)) (0 : Int32) G2)
abbrev rmX4_digest : Room := { frames := 4, cells := 0, slots := 0, locals := 105 }
def wX1_init (Q : hG → Prop) (v0 : Nat) (G : hG) : Prop :=
  ∀ q1, hfr G q1 → hlet (hnw G q1 2 0) fun G2 => ∀ q6, hfr G2 q6 → hlet (hnw G2 q6 100 26) fun G7 => ∀ q11, hfr G7 q11 → hlet (hnw G7 q11 100 3) fun G12 => hC G12 q11 = some (100, true) ∧ vp_in (0 : Int32) (hN G12 q11) ∧ hlet (hsI G12 q11 (Int32.toNatClampNeg (0 : Int32)) (4 : Int32)) fun G18 => hC G18 q11 = some (100, true) ∧ vp_in (1 : Int32) (hN G18 q11) ∧ hlet (hsI G18 q11 (Int32.toNatClampNeg (1 : Int32)) (2 : Int32)) fun G23 => hC G23 q11 = some (100, true) ∧ vp_in (2 : Int32) (hN G23 q11) ∧ hlet (hsI G23 q11 (Int32.toNatClampNeg (2 : Int32)) (3 : Int32)) fun G28 => wX2_init (fun G31 => hC G31 v0 = some (1, true) ∧ hlet (hsR G31 v0 0 (some q1)) fun G36 => ∀ q39, hfr G36 q39 → hlet (hnw G36 q39 18 0) fun G40 => wJ6_init (fun G44 => hC G44 v0 = some (1, true) ∧ hlet (hsR G44 v0 1 (some q39)) fun G49 => ∀ q52, hfr G49 q52 → hlet (hnw G49 q52 102 150) fun G53 => hC G53 v0 = some (1, true) ∧ hlet (hsR G53 v0 2 (some q52)) fun G58 => Q G58) q39 G40) q1 q6 q11 G28
abbrev rmX1_init : Room := { frames := 6, cells := 16, slots := 229, locals := 115 }
def wX2_riskiest_b65 (Q : hG → Int64 → Prop) (r20 : Nat → Int64 → Int32 → Option Nat → hG → Prop) (v0 : Nat) (v3 : Int32) (v4 : Nat) (v6 : Int32) (s0 : Int64) (G : hG) : Prop :=
  r20 v0 s0 (hMx v3 v6) (some v4) G
def wX2_riskiest_b20 (Q : hG → Int64 → Prop) (r20 : Nat → Int64 → Int32 → Option Nat → hG → Prop) (v0 : Nat) (v1 : Int64) (v3 : Int32) (v4 : Option Nat) (G : hG) : Prop :=
  ∃ a1, v4 = some a1 ∧ (hcl G a1 11 ∧ (wJ15_hasNext_c11 (fun G2 z3 => (z3 = 0 → (Q G2 v1)) ∧ (¬ z3 = 0 → (hcl G2 a1 11 ∧ (wJ17_next (fun G9 z10 => (∀ y, z10 = some y → hcl G9 y 4) ∧ (∃ a17, z10 = some a17 ∧ (hcl G9 v0 2 ∧ (wX2_risk (fun G18 z19 => (z19 ≤ v3 → (wX2_riskiest_b65 Q r20 v0 v3 a1 z19 v1 G18)) ∧ (¬ z19 ≤ v3 → (hcl G18 a17 4 ∧ (wX2_riskiest_b65 Q r20 v0 v3 a1 z19 (hJ G18 a17 0) G18)))) v0 a17 G9)))) a1 G2)))) a1 G))
def wX2_riskiest_l20 (Q : hG → Int64 → Prop) (n : Nat) : Nat → Int64 → Int32 → Option Nat → hG → Prop := Nat.rec (motive := fun _ => Nat → Int64 → Int32 → Option Nat → hG → Prop) (fun _ _ _ _ _ => False) (fun _ ih => wX2_riskiest_b20 Q ih) n
def wX2_riskiest (Q : hG → Int64 → Prop) (v0 : Nat) (G : hG) : Prop :=
  hcl G v0 2 ∧ hlet (hR G v0 0) fun y4 => ∃ a5, y4 = some a5 ∧ (hcl G a5 9 ∧ (wJ1_keySet (fun G6 z7 => ∃ a12, z7 = some a12 ∧ (hcl G6 a12 14 ∧ (wJ18_iterator (fun G13 z14 => wX2_riskiest_l20 Q 21 v0 (-1 : Int64) (-1 : Int32) z14 G13) a12 G6))) a5 G))
abbrev rmX2_riskiest : Room := { frames := 14, cells := 1014, slots := 41255, locals := 309 }
def wX1_riskiest (Q : hG → Int64 → Prop) (v0 : Nat) (G : hG) : Prop :=
  hcl G v0 1 ∧ hlet (hR G v0 0) fun y2 => ∃ a3, y2 = some a3 ∧ (hcl G a3 2 ∧ (wX2_riskiest (fun G4 z5 => Q G4 z5) a3 G))
abbrev rmX1_riskiest : Room := { frames := 15, cells := 1014, slots := 41255, locals := 335 }
def wX1_clearCommands (Q : hG → Int32 → Prop) (v0 : Nat) (G : hG) : Prop :=
  hcl G v0 1 ∧ (hC G v0 = some (1, true) ∧ hlet (hsI G v0 3 (0 : Int32)) fun G4 => Q G4 (hI G v0 3))
abbrev rmX1_clearCommands : Room := { frames := 0, cells := 0, slots := 0, locals := 0 }
def wX11_init (Q : hG → Prop) (v0 : Nat) (v1 : Nat) (G : hG) : Prop :=
  hC G v0 = some (8, true) ∧ hlet (hsR G v0 5 (some v1)) fun G2 => hC G2 v0 = some (8, true) ∧ hlet (hsI G2 v0 1 (-1 : Int32)) fun G6 => hC G6 v0 = some (8, true) ∧ hlet (hsR G6 v0 2 (some (hK G6 132))) fun G10 => ∀ q13, hfr G10 q13 → hlet (hnw G10 q13 104 2) fun G14 => hC G14 v0 = some (8, true) ∧ hlet (hsR G14 v0 3 (some q13)) fun G19 => ∀ q22, hfr G19 q22 → hlet (hnw G19 q22 100 2) fun G23 => hC G23 v0 = some (8, true) ∧ hlet (hsR G23 v0 4 (some q22)) fun G28 => Q G28
abbrev rmX11_init : Room := { frames := 1, cells := 2, slots := 4, locals := 12 }
def wX11_isAt_b42 (Q : hG → Int32 → Prop) (s0 : Int32) (G : hG) : Prop :=
  hFt .boolean s0 ∧ Q G s0
def wX11_isAt_b41 (Q : hG → Int32 → Prop)  (G : hG) : Prop :=
  wX11_isAt_b42 Q (0 : Int32) G
def wX11_isAt (Q : hG → Int32 → Prop) (v0 : Nat) (v1 : Int32) (v2 : Int32) (G : hG) : Prop :=
  hcl G v0 8 ∧ (hcl G v0 8 ∧ hlet (hR G v0 5) fun y3 => ∃ a4, y3 = some a4 ∧ (hcl G a4 1 ∧ (((hI G a4 3) ≤ (hI G v0 0) → (wX11_isAt_b41 Q G)) ∧ (¬ (hI G a4 3) ≤ (hI G v0 0) → (hcl G v0 8 ∧ hlet (hR G v0 5) fun y8 => ∃ a9, y8 = some a9 ∧ (hcl G a9 1 ∧ hlet (hR G a9 2) fun y11 => hcl G v0 8 ∧ (∃ a13, y11 = some a13 ∧ (hcl G a13 102 ∧ vp_in (hI G v0 0) (hN G a13) ∧ (wX1_inRange (fun G16 z17 => (z17 = 0 → (wX11_isAt_b41 Q G16)) ∧ (¬ z17 = 0 → (wX11_isAt_b42 Q (1 : Int32) G16))) (((hI G a13 (Int32.toNatClampNeg (hI G v0 0)))).toInt64) ((v1).toInt64) ((v2).toInt64) G)))))))))
abbrev rmX11_isAt : Room := { frames := 1, cells := 0, slots := 0, locals := 25 }
def wX11_spaces_b42 (Q : hG → Int32 → Prop) (s0 : Int32) (G : hG) : Prop :=
  hFt .boolean s0 ∧ Q G s0
def wX11_spaces_b5 (Q : hG → Int32 → Prop) (r5 : Nat → Int32 → hG → Prop) (v0 : Nat) (v1 : Int32) (G : hG) : Prop :=
  hcl G v0 8 ∧ (wX11_isAt (fun G1 z2 => (z2 = 0 → (hcl G1 v0 8 ∧ (((hI G1 v0 0) ≤ v1 → (wX11_spaces_b42 Q (0 : Int32) G1)) ∧ (¬ (hI G1 v0 0) ≤ v1 → (wX11_spaces_b42 Q (1 : Int32) G1))))) ∧ (¬ z2 = 0 → (hcl G1 v0 8 ∧ (hC G1 v0 = some (8, true) ∧ hlet (hsI G1 v0 0 ((hI G1 v0 0) + (1 : Int32))) fun G12 => r5 v0 v1 G12)))) v0 (32 : Int32) (32 : Int32) G)
def wX11_spaces_l5 (Q : hG → Int32 → Prop) (n : Nat) : Nat → Int32 → hG → Prop := Nat.rec (motive := fun _ => Nat → Int32 → hG → Prop) (fun _ _ _ => False) (fun _ ih => wX11_spaces_b5 Q ih) n
def wX11_spaces (Q : hG → Int32 → Prop) (v0 : Nat) (G : hG) : Prop :=
  hcl G v0 8 ∧ (∃ n, wX11_spaces_l5 Q n v0 (hI G v0 0) G)
abbrev rmX11_spaces : Room := { frames := 2, cells := 0, slots := 0, locals := 47 }
def wJ38_init_c20 (Q : hG → Prop) (v0 : Nat) (v1 : Int32) (G : hG) : Prop :=
  ((1 : Int32) = 0 → (False)) ∧ (¬ (1 : Int32) = 0 → (¬ v1 < 0 ∧ (Int32.toNatClampNeg v1) ≤ 16 ∧ ∀ q2, hfr G q2 → hlet (hnw G q2 102 (Int32.toNatClampNeg v1)) fun G3 => hC G3 v0 = some (20, true) ∧ hlet (hsR G3 v0 0 (some q2)) fun G10 => hC G10 v0 = some (20, true) ∧ hlet (hsI G10 v0 1 (0 : Int32)) fun G14 => Q G14))
abbrev rmJ38_init_c20 : Room := { frames := 1, cells := 1, slots := 16, locals := 12 }
def wJ39_init (Q : hG → Prop) (v0 : Nat) (G : hG) : Prop :=
  wJ38_init_c20 (fun G1 => Q G1) v0 (16 : Int32) G
abbrev rmJ39_init : Room := { frames := 2, cells := 1, slots := 16, locals := 33 }
def wJ38_getValue_c20 (Q : hG → Option Nat → Prop) (v0 : Nat) (G : hG) : Prop :=
  hcl G v0 20 ∧ hlet (hR G v0 0) fun y2 => Q G y2
abbrev rmJ38_getValue_c20 : Room := { frames := 0, cells := 0, slots := 0, locals := 0 }
def wJ38_length_c20 (Q : hG → Int32 → Prop) (v0 : Nat) (G : hG) : Prop :=
  hcl G v0 20 ∧ (Q G (hI G v0 3))
abbrev rmJ38_length_c20 : Room := { frames := 0, cells := 0, slots := 0, locals := 0 }
def wJ39_length (Q : hG → Int32 → Prop) (v0 : Nat) (G : hG) : Prop :=
  hcl G v0 20 ∧ (wJ38_length_c20 (fun G1 z2 => Q G1 z2) v0 G)
abbrev rmJ39_length : Room := { frames := 1, cells := 0, slots := 0, locals := 20 }
def wJ38_isLatin1_c20_b18 (Q : hG → Int32 → Prop) (s0 : Int32) (G : hG) : Prop :=
  hFt .boolean s0 ∧ Q G s0
def wJ38_isLatin1_c20_b17 (Q : hG → Int32 → Prop)  (G : hG) : Prop :=
  wJ38_isLatin1_c20_b18 Q (0 : Int32) G
def wJ38_isLatin1_c20 (Q : hG → Int32 → Prop) (v0 : Nat) (G : hG) : Prop :=
  ((1 : Int32) = 0 → (wJ38_isLatin1_c20_b17 Q G)) ∧ (¬ (1 : Int32) = 0 → (hcl G v0 20 ∧ (((hI G v0 1) = 0 → (wJ38_isLatin1_c20_b18 Q (1 : Int32) G)) ∧ (¬ (hI G v0 1) = 0 → (wJ38_isLatin1_c20_b17 Q G)))))
abbrev rmJ38_isLatin1_c20 : Room := { frames := 0, cells := 0, slots := 0, locals := 0 }
def wJ33_checkLength (Q : hG → Prop) (v0 : Int32) (v1 : Int32) (G : hG) : Prop :=
  (v0 ≤ v1 → (Q G)) ∧ (¬ v0 ≤ v1 → (False))
abbrev rmJ33_checkLength : Room := { frames := 0, cells := 0, slots := 0, locals := 0 }
def wJ33_copyOfRangeByte (Q : hG → Option Nat → Prop) (v0 : Nat) (v1 : Int32) (v2 : Int32) (G : hG) : Prop :=
  wJ33_checkLength (fun G1 => ¬ (v2 - v1) < 0 ∧ (Int32.toNatClampNeg (v2 - v1)) ≤ 64 ∧ ∀ q6, hfr G1 q6 → hlet (hnw G1 q6 102 (Int32.toNatClampNeg (v2 - v1))) fun G7 => hcl G7 v0 102 ∧ (hC G7 v0 = some (102, true) ∧ hC G7 q6 = some (102, true) ∧ ¬ v1 < 0 ∧ ¬ (0 : Int32) < 0 ∧ ¬ (hMn ((nI (hN G7 v0)) - v1) (v2 - v1)) < 0 ∧ (Int32.toNatClampNeg v1) + (Int32.toNatClampNeg (hMn ((nI (hN G7 v0)) - v1) (v2 - v1))) ≤ hN G7 v0 ∧ (Int32.toNatClampNeg (0 : Int32)) + (Int32.toNatClampNeg (hMn ((nI (hN G7 v0)) - v1) (v2 - v1))) ≤ hN G7 q6 ∧ (∀ i : Nat, i < (Int32.toNatClampNeg (hMn ((nI (hN G7 v0)) - v1) (v2 - v1))) → fits .byte (.int (hI G7 v0 ((Int32.toNatClampNeg v1) + i))) = true) ∧ hlet (hcpI G7 q6 (Int32.toNatClampNeg (0 : Int32)) (hI G7 v0) (Int32.toNatClampNeg v1) (Int32.toNatClampNeg (hMn ((nI (hN G7 v0)) - v1) (v2 - v1)))) fun G15 => Q G15 (some q6))) v1 v2 G
abbrev rmJ33_copyOfRangeByte : Room := { frames := 1, cells := 1, slots := 64, locals := 48 }
def wJ33_copyOfRange_b10 (Q : hG → Option Nat → Prop) (v0 : Nat) (v1 : Int32) (v2 : Int32) (G : hG) : Prop :=
  wJ33_copyOfRangeByte (fun G1 z2 => Q G1 z2) v0 v1 v2 G
def wJ33_copyOfRange (Q : hG → Option Nat → Prop) (v0 : Nat) (v1 : Int32) (v2 : Int32) (G : hG) : Prop :=
  (v1 = 0 → (hcl G v0 102 ∧ ((v2 = (nI (hN G v0)) → (hC G v0 = some (102, true) ∧ hN G v0 ≤ 32 ∧ (∀ i : Nat, i < hN G v0 → fits .byte (.int (hI G v0 i)) = true) ∧ ∀ q7, hfr G q7 → hlet (hcpI (hnw G q7 102 (hN G v0)) q7 0 (hI G v0) 0 (hN G v0)) fun G9 => hC G9 q7 = some (102, true) ∧ (Q G9 (some q7)))) ∧ (¬ v2 = (nI (hN G v0)) → (wJ33_copyOfRange_b10 Q v0 v1 v2 G))))) ∧ (¬ v1 = 0 → (wJ33_copyOfRange_b10 Q v0 v1 v2 G))
abbrev rmJ33_copyOfRange : Room := { frames := 2, cells := 1, slots := 64, locals := 72 }
def wJ12_init_2 (Q : hG → Prop) (v0 : Nat) (v1 : Nat) (v2 : Option Nat) (G : hG) : Prop :=
  hcl G v1 20 ∧ (wJ38_getValue_c20 (fun G1 z2 => hcl G1 v1 20 ∧ (wJ39_length (fun G8 z9 => hcl G8 v1 20 ∧ (wJ38_isLatin1_c20 (fun G15 z16 => (z16 = 0 → (False)) ∧ (¬ z16 = 0 → (hC G15 v0 = some (21, true) ∧ hlet (hsI G15 v0 1 (0 : Int32)) fun G23 => ∃ a26, z2 = some a26 ∧ (wJ33_copyOfRange (fun G27 z28 => hC G27 v0 = some (21, true) ∧ hlet (hsR G27 v0 0 z28) fun G33 => Q G33) a26 (0 : Int32) z9 G23)))) v1 G8)) v1 G1)) v1 G)
abbrev rmJ12_init_2 : Room := { frames := 3, cells := 1, slots := 64, locals := 94 }
def wJ12_init (Q : hG → Prop) (v0 : Nat) (v1 : Nat) (G : hG) : Prop :=
  wJ12_init_2 (fun G1 => Q G1) v0 v1 none G
abbrev rmJ12_init : Room := { frames := 4, cells := 1, slots := 64, locals := 118 }
def wJ39_toString (Q : hG → Option Nat → Prop) (v0 : Nat) (G : hG) : Prop :=
  ∀ q1, hfr G q1 → hlet (hnw G q1 21 0) fun G2 => wJ12_init (fun G6 => Q G6 (some q1)) q1 v0 G2
abbrev rmJ39_toString : Room := { frames := 5, cells := 2, slots := 68, locals := 139 }
def wJ25_signedHashCode_b8 (Q : hG → Int32 → Prop) (r8 : Int32 → Nat → Int32 → Int32 → hG → Prop) (v0 : Int32) (v1 : Nat) (v4 : Int32) (v5 : Int32) (G : hG) : Prop :=
  (v4 ≤ v5 → (Q G v0)) ∧ (¬ v4 ≤ v5 → (hcl G v1 102 ∧ vp_in v5 (hN G v1) ∧ (hlet (((31 : Int32) * v0) + ((hI G v1 (Int32.toNatClampNeg v5)) &&& (255 : Int32))) fun x4 => r8 x4 v1 v4 (v5 + (1 : Int32)) G)))
def wJ25_signedHashCode_l8 (Q : hG → Int32 → Prop) (n : Nat) : Int32 → Nat → Int32 → Int32 → hG → Prop := Nat.rec (motive := fun _ => Int32 → Nat → Int32 → Int32 → hG → Prop) (fun _ _ _ _ _ => False) (fun _ ih => wJ25_signedHashCode_b8 Q ih) n
def wJ25_signedHashCode (Q : hG → Int32 → Prop) (v0 : Int32) (v1 : Nat) (v2 : Int32) (v3 : Int32) (G : hG) : Prop :=
  ∃ n, wJ25_signedHashCode_l8 Q n v0 v1 (v2 + v3) v2 G
abbrev rmJ25_signedHashCode : Room := { frames := 0, cells := 0, slots := 0, locals := 0 }
def wJ25_vectorizedHashCode (Q : hG → Int32 → Prop) (v0 : Option Nat) (v1 : Int32) (v2 : Int32) (v3 : Int32) (v4 : Int32) (G : hG) : Prop :=
  (v4 = (4 : Int32) → (∃ a2, v0 = some a2 ∧ (hC G a2 = some (102, true) ∧ (wJ25_signedHashCode (fun G4 z5 => Q G4 z5) v3 a2 v1 v2 G)))) ∧ (v4 = (5 : Int32) → (False)) ∧ (v4 = (6 : Int32) → (False)) ∧ (v4 = (7 : Int32) → (False)) ∧ (v4 = (8 : Int32) → (False)) ∧ (v4 = (9 : Int32) → (False)) ∧ (v4 = (10 : Int32) → (False)) ∧ (¬ v4 = (4 : Int32) ∧ ¬ v4 = (5 : Int32) ∧ ¬ v4 = (6 : Int32) ∧ ¬ v4 = (7 : Int32) ∧ ¬ v4 = (8 : Int32) ∧ ¬ v4 = (9 : Int32) ∧ ¬ v4 = (10 : Int32) → (False))
abbrev rmJ25_vectorizedHashCode : Room := { frames := 1, cells := 0, slots := 0, locals := 25 }
def wJ13_hashCode_b51 (Q : hG → Int32 → Prop) (s0 : Int32) (G : hG) : Prop :=
  Q G s0
def wJ13_hashCode (Q : hG → Int32 → Prop) (v0 : Nat) (G : hG) : Prop :=
  hcl G v0 102 ∧ (((nI (hN G v0)) = (0 : Int32) → (wJ13_hashCode_b51 Q (0 : Int32) G)) ∧ ((nI (hN G v0)) = (1 : Int32) → (hcl G v0 102 ∧ vp_in (0 : Int32) (hN G v0) ∧ (wJ13_hashCode_b51 Q ((hI G v0 (Int32.toNatClampNeg (0 : Int32))) &&& (255 : Int32)) G))) ∧ (¬ (nI (hN G v0)) = (0 : Int32) ∧ ¬ (nI (hN G v0)) = (1 : Int32) → (hcl G v0 102 ∧ (wJ25_vectorizedHashCode (fun G7 z8 => wJ13_hashCode_b51 Q z8 G7) (some v0) (0 : Int32) (nI (hN G v0)) (0 : Int32) (4 : Int32) G))))
abbrev rmJ13_hashCode : Room := { frames := 2, cells := 0, slots := 0, locals := 49 }
def wJ12_hashCode_b58 (Q : hG → Int32 → Prop) (v1 : Int32) (G : hG) : Prop :=
  Q G v1
def wJ12_hashCode (Q : hG → Int32 → Prop) (v0 : Nat) (G : hG) : Prop :=
  hcl G v0 21 ∧ (((hI G v0 2) = 0 → (hcl G v0 21 ∧ (((hI G v0 3) = 0 → (hcl G v0 21 ∧ (wJ12_isLatin1 (fun G6 z7 => (z7 = 0 → (False)) ∧ (¬ z7 = 0 → (hcl G6 v0 21 ∧ hlet (hR G6 v0 0) fun y14 => ∃ a15, y14 = some a15 ∧ (wJ13_hashCode (fun G16 z17 => (z17 = 0 → (hC G16 v0 = some (21, true) ∧ hlet (hsI G16 v0 3 (1 : Int32)) fun G28 => wJ12_hashCode_b58 Q z17 G28)) ∧ (¬ z17 = 0 → (hC G16 v0 = some (21, true) ∧ hlet (hsI G16 v0 2 z17) fun G24 => wJ12_hashCode_b58 Q z17 G24))) a15 G6)))) v0 G))) ∧ (¬ (hI G v0 3) = 0 → (wJ12_hashCode_b58 Q (hI G v0 2) G))))) ∧ (¬ (hI G v0 2) = 0 → (wJ12_hashCode_b58 Q (hI G v0 2) G)))
abbrev rmJ12_hashCode : Room := { frames := 3, cells := 0, slots := 0, locals := 69 }
def wJ13_equals_b9 (Q : hG → Int32 → Prop) (r9 : Nat → Nat → Int32 → hG → Prop) (v0 : Nat) (v1 : Nat) (v2 : Int32) (G : hG) : Prop :=
  hcl G v0 102 ∧ (((nI (hN G v0)) ≤ v2 → (Q G (1 : Int32))) ∧ (¬ (nI (hN G v0)) ≤ v2 → (hcl G v0 102 ∧ vp_in v2 (hN G v0) ∧ (hcl G v1 102 ∧ vp_in v2 (hN G v1) ∧ (((hI G v0 (Int32.toNatClampNeg v2)) = (hI G v1 (Int32.toNatClampNeg v2)) → (r9 v0 v1 (v2 + (1 : Int32)) G)) ∧ (¬ (hI G v0 (Int32.toNatClampNeg v2)) = (hI G v1 (Int32.toNatClampNeg v2)) → (Q G (0 : Int32))))))))
def wJ13_equals_l9 (Q : hG → Int32 → Prop) (n : Nat) : Nat → Nat → Int32 → hG → Prop := Nat.rec (motive := fun _ => Nat → Nat → Int32 → hG → Prop) (fun _ _ _ _ => False) (fun _ ih => wJ13_equals_b9 Q ih) n
def wJ13_equals (Q : hG → Int32 → Prop) (v0 : Nat) (v1 : Nat) (G : hG) : Prop :=
  hcl G v0 102 ∧ (hcl G v1 102 ∧ (((nI (hN G v0)) = (nI (hN G v1)) → (∃ n, wJ13_equals_l9 Q n v0 v1 (0 : Int32) G)) ∧ (¬ (nI (hN G v0)) = (nI (hN G v1)) → (Q G (0 : Int32)))))
abbrev rmJ13_equals : Room := { frames := 0, cells := 0, slots := 0, locals := 0 }
def wJ12_equals_b55 (Q : hG → Int32 → Prop) (s0 : Int32) (G : hG) : Prop :=
  hFt .boolean s0 ∧ Q G s0
def wJ12_equals_b54 (Q : hG → Int32 → Prop)  (G : hG) : Prop :=
  wJ12_equals_b55 Q (0 : Int32) G
def wJ12_equals_b36 (Q : hG → Int32 → Prop) (v0 : Nat) (v2 : Nat) (G : hG) : Prop :=
  hcl G v0 21 ∧ hlet (hR G v0 0) fun y2 => hcl G v2 21 ∧ hlet (hR G v2 0) fun y4 => ∃ a5, y2 = some a5 ∧ (∃ a6, y4 = some a6 ∧ (wJ13_equals (fun G7 z8 => (z8 = 0 → (wJ12_equals_b54 Q G7)) ∧ (¬ z8 = 0 → (wJ12_equals_b55 Q (1 : Int32) G7))) a5 a6 G))
def wJ12_equals (Q : hG → Int32 → Prop) (v0 : Nat) (v1 : Option Nat) (G : hG) : Prop :=
  ((some v0) = v1 → (Q G (1 : Int32))) ∧ (¬ (some v0) = v1 → (∃ a2, v1 = some a2 ∧ (hcl G a2 21 ∧ (((1 : Int32) = 0 → (wJ12_equals_b54 Q G)) ∧ (¬ (1 : Int32) = 0 → (hcl G a2 21 ∧ (((1 : Int32) = 0 → (wJ12_equals_b36 Q v0 a2 G)) ∧ (¬ (1 : Int32) = 0 → (hcl G v0 21 ∧ (hcl G a2 21 ∧ (((hI G v0 1) = (hI G a2 1) → (wJ12_equals_b36 Q v0 a2 G)) ∧ (¬ (hI G v0 1) = (hI G a2 1) → (wJ12_equals_b54 Q G)))))))))))))
abbrev rmJ12_equals : Room := { frames := 1, cells := 0, slots := 0, locals := 22 }
def wX1_argumentsOf_b195 (Q : hG → Option Nat → Prop) (v2 : Int32) (G : hG) : Prop :=
  (v2 = (0 : Int32) → (Q G (some (hK G 108)))) ∧ (v2 = (1 : Int32) → (Q G (some (hK G 108)))) ∧ (v2 = (2 : Int32) → (Q G (some (hK G 109)))) ∧ (v2 = (3 : Int32) → (Q G (some (hK G 110)))) ∧ (v2 = (4 : Int32) → (Q G (some (hK G 111)))) ∧ (v2 = (5 : Int32) → (Q G (some (hK G 111)))) ∧ (v2 = (6 : Int32) → (Q G (some (hK G 111)))) ∧ (v2 = (7 : Int32) → (Q G (some (hK G 112)))) ∧ (¬ v2 = (0 : Int32) ∧ ¬ v2 = (1 : Int32) ∧ ¬ v2 = (2 : Int32) ∧ ¬ v2 = (3 : Int32) ∧ ¬ v2 = (4 : Int32) ∧ ¬ v2 = (5 : Int32) ∧ ¬ v2 = (6 : Int32) ∧ ¬ v2 = (7 : Int32) → (Q G none))
def wX1_argumentsOf (Q : hG → Option Nat → Prop) (v0 : Nat) (G : hG) : Prop :=
  hcl G v0 21 ∧ (wJ12_hashCode (fun G3 z4 => (z4 = (113762 : Int32) → (hcl G3 v0 21 ∧ (wJ12_equals (fun G10 z11 => (z11 = 0 → (wX1_argumentsOf_b195 Q (-1 : Int32) G10)) ∧ (¬ z11 = 0 → (wX1_argumentsOf_b195 Q (3 : Int32) G10))) v0 (some (hK G3 103)) G3))) ∧ (z4 = (3015911 : Int32) → (hcl G3 v0 21 ∧ (wJ12_equals (fun G19 z20 => (z20 = 0 → (wX1_argumentsOf_b195 Q (-1 : Int32) G19)) ∧ (¬ z20 = 0 → (wX1_argumentsOf_b195 Q (7 : Int32) G19))) v0 (some (hK G3 107)) G3))) ∧ (z4 = (3092207 : Int32) → (hcl G3 v0 21 ∧ (wJ12_equals (fun G28 z29 => (z29 = 0 → (wX1_argumentsOf_b195 Q (-1 : Int32) G28)) ∧ (¬ z29 = 0 → (wX1_argumentsOf_b195 Q (4 : Int32) G28))) v0 (some (hK G3 104)) G3))) ∧ (z4 = (3373707 : Int32) → (hcl G3 v0 21 ∧ (wJ12_equals (fun G37 z38 => (z38 = 0 → (wX1_argumentsOf_b195 Q (-1 : Int32) G37)) ∧ (¬ z38 = 0 → (wX1_argumentsOf_b195 Q (5 : Int32) G37))) v0 (some (hK G3 105)) G3))) ∧ (z4 = (3575610 : Int32) → (hcl G3 v0 21 ∧ (wJ12_equals (fun G46 z47 => (z47 = 0 → (wX1_argumentsOf_b195 Q (-1 : Int32) G46)) ∧ (¬ z47 = 0 → (wX1_argumentsOf_b195 Q (6 : Int32) G46))) v0 (some (hK G3 106)) G3))) ∧ (z4 = (3655434 : Int32) → (hcl G3 v0 21 ∧ (wJ12_equals (fun G55 z56 => (z56 = 0 → (wX1_argumentsOf_b195 Q (-1 : Int32) G55)) ∧ (¬ z56 = 0 → (wX1_argumentsOf_b195 Q (0 : Int32) G55))) v0 (some (hK G3 100)) G3))) ∧ (z4 = (92906313 : Int32) → (hcl G3 v0 21 ∧ (wJ12_equals (fun G64 z65 => (z65 = 0 → (wX1_argumentsOf_b195 Q (-1 : Int32) G64)) ∧ (¬ z65 = 0 → (wX1_argumentsOf_b195 Q (2 : Int32) G64))) v0 (some (hK G3 102)) G3))) ∧ (z4 = (109764752 : Int32) → (hcl G3 v0 21 ∧ (wJ12_equals (fun G73 z74 => (z74 = 0 → (wX1_argumentsOf_b195 Q (-1 : Int32) G73)) ∧ (¬ z74 = 0 → (wX1_argumentsOf_b195 Q (1 : Int32) G73))) v0 (some (hK G3 101)) G3))) ∧ (¬ z4 = (113762 : Int32) ∧ ¬ z4 = (3015911 : Int32) ∧ ¬ z4 = (3092207 : Int32) ∧ ¬ z4 = (3373707 : Int32) ∧ ¬ z4 = (3575610 : Int32) ∧ ¬ z4 = (3655434 : Int32) ∧ ¬ z4 = (92906313 : Int32) ∧ ¬ z4 = (109764752 : Int32) → (wX1_argumentsOf_b195 Q (-1 : Int32) G3))) v0 G)
abbrev rmX1_argumentsOf : Room := { frames := 4, cells := 0, slots := 0, locals := 90 }
def wJ38_newCapacity_c20 (Q : hG → Int32 → Prop) (v0 : Nat) (v1 : Int32) (G : hG) : Prop :=
  hcl G v0 20 ∧ hlet (hR G v0 0) fun y2 => ∃ a3, y2 = some a3 ∧ (hcl G a3 102 ∧ (hcl G v0 20 ∧ (hcl G v0 20 ∧ (wJ25_newLength (fun G10 z11 => (z11 = (2147483647 : Int32) → (False)) ∧ (¬ z11 = (2147483647 : Int32) → (hcl G10 v0 20 ∧ (Q G10 (z11 >>> ((hI G10 v0 1) &&& 31)))))) (nI (hN G a3)) ((v1 <<< ((hI G v0 1) &&& 31)) - (nI (hN G a3))) ((nI (hN G a3)) + ((2 : Int32) <<< ((hI G v0 1) &&& 31))) G))))
abbrev rmJ38_newCapacity_c20 : Room := { frames := 2, cells := 0, slots := 0, locals := 44 }
def wJ33_copyOf (Q : hG → Option Nat → Prop) (v0 : Nat) (v1 : Int32) (G : hG) : Prop :=
  hcl G v0 102 ∧ ((v1 = (nI (hN G v0)) → (False)) ∧ (¬ v1 = (nI (hN G v0)) → (¬ v1 < 0 ∧ (Int32.toNatClampNeg v1) ≤ 40 ∧ ∀ q3, hfr G q3 → hlet (hnw G q3 102 (Int32.toNatClampNeg v1)) fun G4 => hcl G4 v0 102 ∧ (hC G4 v0 = some (102, true) ∧ hC G4 q3 = some (102, true) ∧ ¬ (0 : Int32) < 0 ∧ ¬ (0 : Int32) < 0 ∧ ¬ (hMn (nI (hN G4 v0)) v1) < 0 ∧ (Int32.toNatClampNeg (0 : Int32)) + (Int32.toNatClampNeg (hMn (nI (hN G4 v0)) v1)) ≤ hN G4 v0 ∧ (Int32.toNatClampNeg (0 : Int32)) + (Int32.toNatClampNeg (hMn (nI (hN G4 v0)) v1)) ≤ hN G4 q3 ∧ (∀ i : Nat, i < (Int32.toNatClampNeg (hMn (nI (hN G4 v0)) v1)) → fits .byte (.int (hI G4 v0 ((Int32.toNatClampNeg (0 : Int32)) + i))) = true) ∧ hlet (hcpI G4 q3 (Int32.toNatClampNeg (0 : Int32)) (hI G4 v0) (Int32.toNatClampNeg (0 : Int32)) (Int32.toNatClampNeg (hMn (nI (hN G4 v0)) v1))) fun G12 => Q G12 (some q3)))))
abbrev rmJ33_copyOf : Room := { frames := 1, cells := 1, slots := 40, locals := 48 }
def wJ38_ensureCapacityInternal_c20_b38 (Q : hG → Prop)  (G : hG) : Prop :=
  Q G
def wJ38_ensureCapacityInternal_c20 (Q : hG → Prop) (v0 : Nat) (v1 : Int32) (G : hG) : Prop :=
  hcl G v0 20 ∧ hlet (hR G v0 0) fun y2 => ∃ a3, y2 = some a3 ∧ (hcl G a3 102 ∧ (hcl G v0 20 ∧ (((v1 - ((nI (hN G a3)) >>> ((hI G v0 1) &&& 31))) ≤ 0 → (wJ38_ensureCapacityInternal_c20_b38 Q G)) ∧ (¬ (v1 - ((nI (hN G a3)) >>> ((hI G v0 1) &&& 31))) ≤ 0 → (hcl G v0 20 ∧ hlet (hR G v0 0) fun y9 => hcl G v0 20 ∧ (wJ38_newCapacity_c20 (fun G10 z11 => hcl G10 v0 20 ∧ (∃ a17, y9 = some a17 ∧ (wJ33_copyOf (fun G18 z19 => hC G18 v0 = some (20, true) ∧ hlet (hsR G18 v0 0 z19) fun G24 => wJ38_ensureCapacityInternal_c20_b38 Q G24) a17 (z11 <<< ((hI G10 v0 1) &&& 31)) G10))) v0 v1 G))))))
abbrev rmJ38_ensureCapacityInternal_c20 : Room := { frames := 3, cells := 1, slots := 40, locals := 70 }
def wJ13_canEncode_b12 (Q : hG → Int32 → Prop) (s0 : Int32) (G : hG) : Prop :=
  hFt .boolean s0 ∧ Q G s0
def wJ13_canEncode (Q : hG → Int32 → Prop) (v0 : Int32) (G : hG) : Prop :=
  ((255 : Int32) < v0 → (wJ13_canEncode_b12 Q (0 : Int32) G)) ∧ (¬ (255 : Int32) < v0 → (wJ13_canEncode_b12 Q (1 : Int32) G))
abbrev rmJ13_canEncode : Room := { frames := 0, cells := 0, slots := 0, locals := 0 }
def wJ38_append_c20 (Q : hG → Option Nat → Prop) (v0 : Nat) (v1 : Int32) (G : hG) : Prop :=
  hcl G v0 20 ∧ (hcl G v0 20 ∧ (wJ38_ensureCapacityInternal_c20 (fun G2 => hcl G2 v0 20 ∧ (wJ38_isLatin1_c20 (fun G7 z8 => (z8 = 0 → (False)) ∧ (¬ z8 = 0 → (wJ13_canEncode (fun G14 z15 => (z15 = 0 → (False)) ∧ (¬ z15 = 0 → (hcl G14 v0 20 ∧ hlet (hR G14 v0 0) fun y21 => hcl G14 v0 20 ∧ (hC G14 v0 = some (20, true) ∧ hlet (hsI G14 v0 3 ((hI G14 v0 3) + (1 : Int32))) fun G24 => ∃ a27, y21 = some a27 ∧ (hC G24 a27 = some (102, true) ∧ vp_in (hI G14 v0 3) (hN G24 a27) ∧ hlet (hsI G24 a27 (Int32.toNatClampNeg (hI G14 v0 3)) ((((v1).toInt8.toInt32)).toInt8.toInt32)) fun G30 => Q G30 (some v0)))))) v1 G7))) v0 G2)) v0 ((hI G v0 3) + (1 : Int32)) G))
abbrev rmJ38_append_c20 : Room := { frames := 4, cells := 1, slots := 40, locals := 92 }
def wJ39_append (Q : hG → Option Nat → Prop) (v0 : Nat) (v1 : Int32) (G : hG) : Prop :=
  hcl G v0 20 ∧ (wJ38_append_c20 (fun G1 z2 => Q G1 (some v0)) v0 v1 G)
abbrev rmJ39_append : Room := { frames := 5, cells := 1, slots := 40, locals := 113 }
def wX11_readNumber_b101 (Q : hG → Int32 → Prop) (s0 : Int32) (G : hG) : Prop :=
  hFt .boolean s0 ∧ Q G s0
def wX11_readNumber_b100 (Q : hG → Int32 → Prop)  (G : hG) : Prop :=
  wX11_readNumber_b101 Q (0 : Int32) G
def wX11_readNumber_b77 (Q : hG → Int32 → Prop) (v0 : Nat) (v2 : Int32) (G : hG) : Prop :=
  hcl G v0 8 ∧ (((hI G v0 0) ≤ v2 → (wX11_readNumber_b100 Q G)) ∧ (¬ (hI G v0 0) ≤ v2 → (hcl G v0 8 ∧ (wX11_isAt (fun G3 z4 => (z4 = 0 → (wX11_readNumber_b101 Q (1 : Int32) G3)) ∧ (¬ z4 = 0 → (wX11_readNumber_b100 Q G3))) v0 (48 : Int32) (57 : Int32) G))))
def wX11_readNumber_b12 (Q : hG → Int32 → Prop) (r12 : Nat → Int32 → Int32 → hG → Prop) (v0 : Nat) (v1 : Int32) (v2 : Int32) (G : hG) : Prop :=
  hcl G v0 8 ∧ (wX11_isAt (fun G1 z2 => (z2 = 0 → (wX11_readNumber_b77 Q v0 v2 G1)) ∧ (¬ z2 = 0 → (hcl G1 v0 8 ∧ (((v2 + (3 : Int32)) ≤ (hI G1 v0 0) → (wX11_readNumber_b77 Q v0 v2 G1)) ∧ (¬ (v2 + (3 : Int32)) ≤ (hI G1 v0 0) → (hcl G1 v0 8 ∧ hlet (hR G1 v0 4) fun y11 => hcl G1 v0 8 ∧ hlet (hR G1 v0 4) fun y13 => ∃ a14, y13 = some a14 ∧ (hcl G1 a14 100 ∧ vp_in v1 (hN G1 a14) ∧ (hcl G1 v0 8 ∧ hlet (hR G1 v0 5) fun y18 => ∃ a19, y18 = some a19 ∧ (hcl G1 a19 1 ∧ hlet (hR G1 a19 2) fun y21 => hcl G1 v0 8 ∧ (∃ a23, y21 = some a23 ∧ (hcl G1 a23 102 ∧ vp_in (hI G1 v0 0) (hN G1 a23) ∧ (∃ a26, y11 = some a26 ∧ (hC G1 a26 = some (100, true) ∧ vp_in v1 (hN G1 a26) ∧ hlet (hsI G1 a26 (Int32.toNatClampNeg v1) ((((10 : Int32) * (hI G1 a14 (Int32.toNatClampNeg v1))) + (hI G1 a23 (Int32.toNatClampNeg (hI G1 v0 0)))) - (48 : Int32))) fun G29 => hcl G29 v0 8 ∧ (hC G29 v0 = some (8, true) ∧ hlet (hsI G29 v0 0 ((hI G29 v0 0) + (1 : Int32))) fun G34 => r12 v0 v1 v2 G34)))))))))))))) v0 (48 : Int32) (57 : Int32) G)
def wX11_readNumber_l12 (Q : hG → Int32 → Prop) (n : Nat) : Nat → Int32 → Int32 → hG → Prop := Nat.rec (motive := fun _ => Nat → Int32 → Int32 → hG → Prop) (fun _ _ _ _ => False) (fun _ ih => wX11_readNumber_b12 Q ih) n
def wX11_readNumber (Q : hG → Int32 → Prop) (v0 : Nat) (v1 : Int32) (G : hG) : Prop :=
  hcl G v0 8 ∧ (hcl G v0 8 ∧ hlet (hR G v0 4) fun y4 => ∃ a5, y4 = some a5 ∧ (hC G a5 = some (100, true) ∧ vp_in v1 (hN G a5) ∧ hlet (hsI G a5 (Int32.toNatClampNeg v1) (0 : Int32)) fun G8 => ∃ n, wX11_readNumber_l12 Q n v0 v1 (hI G v0 0) G8))
abbrev rmX11_readNumber : Room := { frames := 2, cells := 0, slots := 0, locals := 47 }
def wX11_readWord_b113 (Q : hG → Int32 → Prop) (X : Bool → hG → Prop) (v5 : Int32) (s0 : Option Nat) (s1 : Int32) (s2 : Option Nat) (G : hG) : Prop :=
  ∃ a1, s0 = some a1 ∧ (hC G a1 = some (104, true) ∧ vp_in s1 (hN G a1) ∧ hTk G 4 s2 ∧ hlet (hsR G a1 (Int32.toNatClampNeg s1) s2) fun G5 => hFt .boolean v5 ∧ Q G5 v5)
def wX11_readWord_b89 (Q : hG → Int32 → Prop) (X : Bool → hG → Prop) (v0 : Nat) (v1 : Int32) (v3 : Int64) (s0 : Int32) (G : hG) : Prop :=
  hcl G v0 8 ∧ hlet (hR G v0 3) fun y3 => (s0 = 0 → (wX11_readWord_b113 Q X s0 y3 v1 none G)) ∧ (¬ s0 = 0 → (∀ q5, hfr G q5 → hlet (hnw G q5 4 0) fun G6 => wX5_init (fun G10 => wX11_readWord_b113 Q X s0 y3 v1 (some q5) G10) X q5 v3 G6))
def wX11_readWord_b88 (Q : hG → Int32 → Prop) (X : Bool → hG → Prop) (v0 : Nat) (v1 : Int32) (v3 : Int64) (G : hG) : Prop :=
  wX11_readWord_b89 Q X v0 v1 v3 (0 : Int32) G
def wX11_readWord_b65 (Q : hG → Int32 → Prop) (X : Bool → hG → Prop) (v0 : Nat) (v1 : Int32) (v2 : Int32) (v3 : Int64) (G : hG) : Prop :=
  hcl G v0 8 ∧ (((hI G v0 0) ≤ v2 → (wX11_readWord_b88 Q X v0 v1 v3 G)) ∧ (¬ (hI G v0 0) ≤ v2 → (hcl G v0 8 ∧ (wX11_isAt (fun G3 z4 => (z4 = 0 → (wX11_readWord_b89 Q X v0 v1 v3 (1 : Int32) G3)) ∧ (¬ z4 = 0 → (wX11_readWord_b88 Q X v0 v1 v3 G3))) v0 (97 : Int32) (122 : Int32) G))))
def wX11_readWord_b7 (Q : hG → Int32 → Prop) (X : Bool → hG → Prop) (r7 : Nat → Int32 → Int32 → Int64 → hG → Prop) (v0 : Nat) (v1 : Int32) (v2 : Int32) (v3 : Int64) (G : hG) : Prop :=
  hcl G v0 8 ∧ (wX11_isAt (fun G1 z2 => (z2 = 0 → (wX11_readWord_b65 Q X v0 v1 v2 v3 G1)) ∧ (¬ z2 = 0 → (hcl G1 v0 8 ∧ (((v2 + (8 : Int32)) ≤ (hI G1 v0 0) → (wX11_readWord_b65 Q X v0 v1 v2 v3 G1)) ∧ (¬ (v2 + (8 : Int32)) ≤ (hI G1 v0 0) → (hcl G1 v0 8 ∧ hlet (hR G1 v0 5) fun y11 => ∃ a12, y11 = some a12 ∧ (hcl G1 a12 1 ∧ hlet (hR G1 a12 2) fun y14 => hcl G1 v0 8 ∧ (∃ a16, y14 = some a16 ∧ (hcl G1 a16 102 ∧ vp_in (hI G1 v0 0) (hN G1 a16) ∧ (hlet ((v3 <<< (((5 : Int32)).toInt64 &&& 63)) ||| (((((hI G1 a16 (Int32.toNatClampNeg (hI G1 v0 0))) - (97 : Int32)) + (1 : Int32))).toInt64)) fun x19 => hcl G1 v0 8 ∧ (hC G1 v0 = some (8, true) ∧ hlet (hsI G1 v0 0 ((hI G1 v0 0) + (1 : Int32))) fun G23 => r7 v0 v1 v2 x19 G23))))))))))) v0 (97 : Int32) (122 : Int32) G)
def wX11_readWord_l7 (Q : hG → Int32 → Prop) (X : Bool → hG → Prop) (n : Nat) : Nat → Int32 → Int32 → Int64 → hG → Prop := Nat.rec (motive := fun _ => Nat → Int32 → Int32 → Int64 → hG → Prop) (fun _ _ _ _ _ => False) (fun _ ih => wX11_readWord_b7 Q X ih) n
def wX11_readWord (Q : hG → Int32 → Prop) (X : Bool → hG → Prop) (v0 : Nat) (v1 : Int32) (G : hG) : Prop :=
  hcl G v0 8 ∧ (∃ n, wX11_readWord_l7 Q X n v0 v1 (hI G v0 0) (0 : Int64) G)
abbrev rmX11_readWord : Room := { frames := 8, cells := 2, slots := 8, locals := 133 }
def wX11_readCommand_b133 (Q : hG → Int32 → Prop) (X : Bool → hG → Prop)  (G : hG) : Prop :=
  Q G (0 : Int32)
def wX11_readCommand_b135 (Q : hG → Int32 → Prop) (X : Bool → hG → Prop) (r85 : Nat → Nat → Int32 → hG → Prop) (v0 : Nat) (v3 : Nat) (v4 : Int32) (G : hG) : Prop :=
  r85 v0 v3 (v4 + (1 : Int32)) G
def wX11_readCommand_b172 (Q : hG → Int32 → Prop) (X : Bool → hG → Prop) (v5 : Int32) (s0 : Nat) (s1 : Int32) (s2 : Int32) (G : hG) : Prop :=
  hC G s0 = some (8, true) ∧ hlet (hsI G s0 0 (s1 + s2)) fun G2 => hFt .boolean v5 ∧ Q G2 v5
def wX11_readCommand_b85 (Q : hG → Int32 → Prop) (X : Bool → hG → Prop) (r85 : Nat → Nat → Int32 → hG → Prop) (v0 : Nat) (v3 : Nat) (v4 : Int32) (G : hG) : Prop :=
  hcl G v3 21 ∧ (wJ12_length (fun G1 z2 => (z2 ≤ v4 → (hcl G1 v0 8 ∧ (wX11_spaces (fun G8 z9 => hcl G8 v0 8 ∧ (wX11_isAt (fun G15 z16 => hcl G15 v0 8 ∧ ((z16 = 0 → (wX11_readCommand_b172 Q X z16 v0 (hI G15 v0 0) (0 : Int32) G15)) ∧ (¬ z16 = 0 → (wX11_readCommand_b172 Q X z16 v0 (hI G15 v0 0) (1 : Int32) G15)))) v0 (59 : Int32) (59 : Int32) G8)) v0 G1))) ∧ (¬ z2 ≤ v4 → (hcl G1 v0 8 ∧ (wX11_spaces (fun G24 z25 => (z25 = 0 → (wX11_readCommand_b133 Q X G24)) ∧ (¬ z25 = 0 → (hcl G24 v3 21 ∧ (wJ12_charAt (fun G31 z32 => (z32 = (119 : Int32) → (hcl G31 v0 8 ∧ (wX11_readWord (fun G45 z46 => (z46 = 0 → (wX11_readCommand_b133 Q X G45)) ∧ (¬ z46 = 0 → (wX11_readCommand_b135 Q X r85 v0 v3 v4 G45))) X v0 v4 G31))) ∧ (¬ z32 = (119 : Int32) → (hcl G31 v0 8 ∧ (wX11_readNumber (fun G38 z39 => (z39 = 0 → (wX11_readCommand_b133 Q X G38)) ∧ (¬ z39 = 0 → (wX11_readCommand_b135 Q X r85 v0 v3 v4 G38))) v0 v4 G31)))) v3 v4 G24)))) v0 G1)))) v3 G)
def wX11_readCommand_l85 (Q : hG → Int32 → Prop) (X : Bool → hG → Prop) (n : Nat) : Nat → Nat → Int32 → hG → Prop := Nat.rec (motive := fun _ => Nat → Nat → Int32 → hG → Prop) (fun _ _ _ _ => False) (fun _ ih => wX11_readCommand_b85 Q X ih) n
def wX11_readCommand_b13 (Q : hG → Int32 → Prop) (X : Bool → hG → Prop) (r13 : Nat → Int32 → Nat → hG → Prop) (v0 : Nat) (v1 : Int32) (v2 : Nat) (G : hG) : Prop :=
  hcl G v0 8 ∧ (wX11_isAt (fun G1 z2 => (z2 = 0 → (hcl G1 v2 20 ∧ (wJ39_toString (fun G8 z9 => hC G8 v0 = some (8, true) ∧ hlet (hsR G8 v0 2 z9) fun G15 => hcl G15 v0 8 ∧ hlet (hR G15 v0 2) fun y19 => ∃ a20, y19 = some a20 ∧ (wX1_argumentsOf (fun G21 z22 => (z22 = none → (hC G21 v0 = some (8, true) ∧ hlet (hsI G21 v0 0 v1) fun G30 => Q G30 (0 : Int32))) ∧ (∀ y27, z22 = some y27 → (wX11_readCommand_l85 Q X 3 v0 y27 (0 : Int32) G21))) a20 G15)) v2 G1))) ∧ (¬ z2 = 0 → (hcl G1 v0 8 ∧ hlet (hR G1 v0 5) fun y35 => ∃ a36, y35 = some a36 ∧ (hcl G1 a36 1 ∧ hlet (hR G1 a36 2) fun y38 => hcl G1 v0 8 ∧ (∃ a40, y38 = some a40 ∧ (hcl G1 a40 102 ∧ vp_in (hI G1 v0 0) (hN G1 a40) ∧ (hcl G1 v2 20 ∧ (wJ39_append (fun G43 z44 => hcl G43 v0 8 ∧ (hC G43 v0 = some (8, true) ∧ hlet (hsI G43 v0 0 ((hI G43 v0 0) + (1 : Int32))) fun G51 => r13 v0 v1 v2 G51)) v2 ((((hI G1 a40 (Int32.toNatClampNeg (hI G1 v0 0)))).toUInt32 % 65536).toInt32) G1)))))))) v0 (97 : Int32) (122 : Int32) G)
def wX11_readCommand_l13 (Q : hG → Int32 → Prop) (X : Bool → hG → Prop) (n : Nat) : Nat → Int32 → Nat → hG → Prop := Nat.rec (motive := fun _ => Nat → Int32 → Nat → hG → Prop) (fun _ _ _ _ => False) (fun _ ih => wX11_readCommand_b13 Q X ih) n
def wX11_readCommand (Q : hG → Int32 → Prop) (X : Bool → hG → Prop) (v0 : Nat) (G : hG) : Prop :=
  hcl G v0 8 ∧ (∀ q3, hfr G q3 → hlet (hnw G q3 20 0) fun G4 => wJ39_init (fun G8 => wX11_readCommand_l13 Q X 26 v0 (hI G v0 0) q3 G8) q3 G4)
abbrev rmX11_readCommand : Room := { frames := 9, cells := 38, slots := 1160, locals := 159 }
def wX11_next_b27 (Q : hG → Int32 → Prop) (X : Bool → hG → Prop)  (G : hG) : Prop :=
  Q G (0 : Int32)
def wX11_next_b44 (Q : hG → Int32 → Prop) (X : Bool → hG → Prop)  (G : hG) : Prop :=
  Q G (1 : Int32)
def wX11_next (Q : hG → Int32 → Prop) (X : Bool → hG → Prop) (v0 : Nat) (G : hG) : Prop :=
  hcl G v0 8 ∧ (wX11_spaces (fun G1 z2 => hcl G1 v0 8 ∧ (hcl G1 v0 8 ∧ hlet (hR G1 v0 5) fun y10 => ∃ a11, y10 = some a11 ∧ (hcl G1 a11 1 ∧ (((hI G1 v0 0) = (hI G1 a11 3) → (wX11_next_b27 Q X G1)) ∧ (¬ (hI G1 v0 0) = (hI G1 a11 3) → (hcl G1 v0 8 ∧ (((hI G1 v0 1) = (-1 : Int32) → (hcl G1 v0 8 ∧ (wX11_readCommand (fun G16 z17 => (z17 = 0 → (hcl G16 v0 8 ∧ (hC G16 v0 = some (8, true) ∧ hlet (hsI G16 v0 1 (hI G16 v0 0)) fun G25 => wX11_next_b44 Q X G25))) ∧ (¬ z17 = 0 → (wX11_next_b44 Q X G16))) X v0 G1))) ∧ (¬ (hI G1 v0 1) = (-1 : Int32) → (wX11_next_b27 Q X G1))))))))) v0 G)
abbrev rmX11_next : Room := { frames := 10, cells := 38, slots := 1160, locals := 184 }
def wX1_carryOut_b333 (Q : hG → Prop) (X : Bool → hG → Prop)  (G : hG) : Prop :=
  Q G
def wX1_carryOut_b186 (Q : hG → Prop) (X : Bool → hG → Prop) (v0 : Nat) (v2 : Nat) (v3 : Nat) (v5 : Int32) (G : hG) : Prop :=
  (v5 = (0 : Int32) → (hcl G v2 104 ∧ vp_in (0 : Int32) (hN G v2) ∧ hlet (hR G v2 (Int32.toNatClampNeg (0 : Int32))) fun y4 => hcl G v3 100 ∧ vp_in (1 : Int32) (hN G v3) ∧ (∃ a7, y4 = some a7 ∧ (hcl G v0 2 ∧ (wX2_addWord (fun G8 z9 => wX1_carryOut_b333 Q X G8) X v0 a7 (hI G v3 (Int32.toNatClampNeg (1 : Int32))) G))))) ∧ (v5 = (1 : Int32) → (hcl G v2 104 ∧ vp_in (0 : Int32) (hN G v2) ∧ hlet (hR G v2 (Int32.toNatClampNeg (0 : Int32))) fun y17 => ∃ a18, y17 = some a18 ∧ (hcl G a18 4 ∧ (wX5_charAt (fun G19 z20 => hcl G19 v3 100 ∧ vp_in (1 : Int32) (hN G19 v3) ∧ (hcl G19 v0 2 ∧ (wX2_setStick (fun G27 z28 => wX1_carryOut_b333 Q X G27) X v0 (z20 - (97 : Int32)) (hI G19 v3 (Int32.toNatClampNeg (1 : Int32))) G19))) a18 (0 : Int32) G)))) ∧ (v5 = (2 : Int32) → (hcl G v2 104 ∧ vp_in (0 : Int32) (hN G v2) ∧ hlet (hR G v2 (Int32.toNatClampNeg (0 : Int32))) fun y36 => hcl G v2 104 ∧ vp_in (1 : Int32) (hN G v2) ∧ hlet (hR G v2 (Int32.toNatClampNeg (1 : Int32))) fun y39 => ∃ a40, y36 = some a40 ∧ (∃ a41, y39 = some a41 ∧ (hcl G v0 2 ∧ (wX2_allow (fun G42 z43 => wX1_carryOut_b333 Q X G42) v0 a40 a41 G))))) ∧ (v5 = (3 : Int32) → (hcl G v3 100 ∧ vp_in (0 : Int32) (hN G v3) ∧ (hcl G v3 100 ∧ vp_in (1 : Int32) (hN G v3) ∧ (hcl G v0 2 ∧ (wX2_set (fun G53 z54 => wX1_carryOut_b333 Q X G53) X v0 (hI G v3 (Int32.toNatClampNeg (0 : Int32))) (hI G v3 (Int32.toNatClampNeg (1 : Int32))) G))))) ∧ (v5 = (4 : Int32) → (hcl G v2 104 ∧ vp_in (0 : Int32) (hN G v2) ∧ hlet (hR G v2 (Int32.toNatClampNeg (0 : Int32))) fun y62 => ∃ a63, y62 = some a63 ∧ (hcl G v0 2 ∧ (wX2_dropWord (fun G64 z65 => wX1_carryOut_b333 Q X G64) v0 a63 G)))) ∧ (v5 = (5 : Int32) → (hcl G v2 104 ∧ vp_in (0 : Int32) (hN G v2) ∧ hlet (hR G v2 (Int32.toNatClampNeg (0 : Int32))) fun y73 => ∃ a74, y73 = some a74 ∧ (hcl G v0 2 ∧ (wX2_addName (fun G75 z76 => wX1_carryOut_b333 Q X G75) X v0 a74 G)))) ∧ (v5 = (6 : Int32) → (hcl G v2 104 ∧ vp_in (0 : Int32) (hN G v2) ∧ hlet (hR G v2 (Int32.toNatClampNeg (0 : Int32))) fun y84 => ∃ a85, y84 = some a85 ∧ (hcl G v0 2 ∧ (wX2_correct (fun G86 z87 => wX1_carryOut_b333 Q X G86) v0 a85 G)))) ∧ (¬ v5 = (0 : Int32) ∧ ¬ v5 = (1 : Int32) ∧ ¬ v5 = (2 : Int32) ∧ ¬ v5 = (3 : Int32) ∧ ¬ v5 = (4 : Int32) ∧ ¬ v5 = (5 : Int32) ∧ ¬ v5 = (6 : Int32) → (hcl G v0 2 ∧ (wX2_takeBack (fun G92 z93 => wX1_carryOut_b333 Q X G92) X v0 G)))
def wX1_carryOut (Q : hG → Prop) (X : Bool → hG → Prop) (v0 : Nat) (v1 : Nat) (v2 : Nat) (v3 : Nat) (G : hG) : Prop :=
  hcl G v1 21 ∧ (wJ12_hashCode (fun G3 z4 => (z4 = (113762 : Int32) → (hcl G3 v1 21 ∧ (wJ12_equals (fun G10 z11 => (z11 = 0 → (wX1_carryOut_b186 Q X v0 v2 v3 (-1 : Int32) G10)) ∧ (¬ z11 = 0 → (wX1_carryOut_b186 Q X v0 v2 v3 (3 : Int32) G10))) v1 (some (hK G3 103)) G3))) ∧ (z4 = (3092207 : Int32) → (hcl G3 v1 21 ∧ (wJ12_equals (fun G19 z20 => (z20 = 0 → (wX1_carryOut_b186 Q X v0 v2 v3 (-1 : Int32) G19)) ∧ (¬ z20 = 0 → (wX1_carryOut_b186 Q X v0 v2 v3 (4 : Int32) G19))) v1 (some (hK G3 104)) G3))) ∧ (z4 = (3373707 : Int32) → (hcl G3 v1 21 ∧ (wJ12_equals (fun G28 z29 => (z29 = 0 → (wX1_carryOut_b186 Q X v0 v2 v3 (-1 : Int32) G28)) ∧ (¬ z29 = 0 → (wX1_carryOut_b186 Q X v0 v2 v3 (5 : Int32) G28))) v1 (some (hK G3 105)) G3))) ∧ (z4 = (3575610 : Int32) → (hcl G3 v1 21 ∧ (wJ12_equals (fun G37 z38 => (z38 = 0 → (wX1_carryOut_b186 Q X v0 v2 v3 (-1 : Int32) G37)) ∧ (¬ z38 = 0 → (wX1_carryOut_b186 Q X v0 v2 v3 (6 : Int32) G37))) v1 (some (hK G3 106)) G3))) ∧ (z4 = (3655434 : Int32) → (hcl G3 v1 21 ∧ (wJ12_equals (fun G46 z47 => (z47 = 0 → (wX1_carryOut_b186 Q X v0 v2 v3 (-1 : Int32) G46)) ∧ (¬ z47 = 0 → (wX1_carryOut_b186 Q X v0 v2 v3 (0 : Int32) G46))) v1 (some (hK G3 100)) G3))) ∧ (z4 = (92906313 : Int32) → (hcl G3 v1 21 ∧ (wJ12_equals (fun G55 z56 => (z56 = 0 → (wX1_carryOut_b186 Q X v0 v2 v3 (-1 : Int32) G55)) ∧ (¬ z56 = 0 → (wX1_carryOut_b186 Q X v0 v2 v3 (2 : Int32) G55))) v1 (some (hK G3 102)) G3))) ∧ (z4 = (109764752 : Int32) → (hcl G3 v1 21 ∧ (wJ12_equals (fun G64 z65 => (z65 = 0 → (wX1_carryOut_b186 Q X v0 v2 v3 (-1 : Int32) G64)) ∧ (¬ z65 = 0 → (wX1_carryOut_b186 Q X v0 v2 v3 (1 : Int32) G64))) v1 (some (hK G3 101)) G3))) ∧ (¬ z4 = (113762 : Int32) ∧ ¬ z4 = (3092207 : Int32) ∧ ¬ z4 = (3373707 : Int32) ∧ ¬ z4 = (3575610 : Int32) ∧ ¬ z4 = (3655434 : Int32) ∧ ¬ z4 = (92906313 : Int32) ∧ ¬ z4 = (109764752 : Int32) → (wX1_carryOut_b186 Q X v0 v2 v3 (-1 : Int32) G3))) v1 G)
abbrev rmX1_carryOut : Room := { frames := 16, cells := 190, slots := 6862, locals := 354 }
def wX11_carryOutOn_b34 (Q : hG → Int32 → Prop) (v2 : Int32) (s0 : Nat) (G : hG) : Prop :=
  Q G v2
def wX11_carryOutOn_b2 (Q : hG → Int32 → Prop) (r2 : Nat → Nat → Int32 → hG → Prop) (v0 : Nat) (v1 : Nat) (v2 : Int32) (G : hG) : Prop :=
  hcl G v0 8 ∧ (wX11_next (fun G1 z2 => (z2 = 0 → (Q G1 v2)) ∧ (¬ z2 = 0 → (hcl G1 v0 8 ∧ hlet (hR G1 v0 2) fun y11 => hcl G1 v0 8 ∧ hlet (hR G1 v0 3) fun y13 => hcl G1 v0 8 ∧ hlet (hR G1 v0 4) fun y15 => ∃ a16, y11 = some a16 ∧ (∃ a17, y13 = some a17 ∧ (∃ a18, y15 = some a18 ∧ (wX1_carryOut (fun G19 => r2 v0 v1 (v2 + (1 : Int32)) G19) (fun k G21 => hXc k (∀ q20 : Nat, wX11_carryOutOn_b34 Q v2 q20 G21) (∀ q20 : Nat, wX11_carryOutOn_b34 Q v2 q20 G21)) v1 a16 a17 a18 G1)))))) (fun k G5 => hXc k (∀ q4 : Nat, wX11_carryOutOn_b34 Q v2 q4 G5) (∀ q4 : Nat, wX11_carryOutOn_b34 Q v2 q4 G5)) v0 G)
def wX11_carryOutOn_l2 (Q : hG → Int32 → Prop) (n : Nat) : Nat → Nat → Int32 → hG → Prop := Nat.rec (motive := fun _ => Nat → Nat → Int32 → hG → Prop) (fun _ _ _ _ => False) (fun _ ih => wX11_carryOutOn_b2 Q ih) n
def wX11_carryOutOn (Q : hG → Int32 → Prop) (v0 : Nat) (v1 : Nat) (G : hG) : Prop :=
  wX11_carryOutOn_l2 Q 8 v0 v1 (0 : Int32) G
abbrev rmX11_carryOutOn : Room := { frames := 17, cells := 2052, slots := 72198, locals := 379 }
def wX1_runCommands_b11 (Q : hG → Int32 → Prop) (X : Bool → hG → Prop) (r11 : Nat → Nat → Int32 → hG → Prop) (v0 : Nat) (v1 : Nat) (v2 : Int32) (G : hG) : Prop :=
  (v2 = 0 → (hcl G v1 8 ∧ (((hI G v1 1) = (-1 : Int32) → (hcl G v0 1 ∧ hlet (hR G v0 0) fun y5 => ∃ a6, y5 = some a6 ∧ (hcl G a6 2 ∧ (wX2_copy (fun G7 z8 => ∀ q14, hfr G7 q14 → hlet (hnw G7 q14 8 0) fun G15 => wX11_init (fun G19 => ∃ a23, z8 = some a23 ∧ (hcl G19 q14 8 ∧ (wX11_carryOutOn (fun G24 z25 => hcl G24 v0 1 ∧ (wX1_become (fun G30 z31 => Q G30 z31) v0 a23 z25 G24)) q14 a23 G19))) q14 v0 G15) a6 G)))) ∧ (¬ (hI G v1 1) = (-1 : Int32) → (hcl G v1 8 ∧ (Q G ((-10 : Int32) - (hI G v1 1)))))))) ∧ (¬ v2 = 0 → (hcl G v1 8 ∧ (wX11_next (fun G37 z38 => r11 v0 v1 z38 G37) X v1 G)))
def wX1_runCommands_l11 (Q : hG → Int32 → Prop) (X : Bool → hG → Prop) (n : Nat) : Nat → Nat → Int32 → hG → Prop := Nat.rec (motive := fun _ => Nat → Nat → Int32 → hG → Prop) (fun _ _ _ _ => False) (fun _ ih => wX1_runCommands_b11 Q X ih) n
def wX1_runCommands (Q : hG → Int32 → Prop) (X : Bool → hG → Prop) (v0 : Nat) (G : hG) : Prop :=
  ∀ q1, hfr G q1 → hlet (hnw G q1 8 0) fun G2 => wX11_init (fun G6 => wX1_runCommands_l11 Q X 8 v0 q1 (1 : Int32) G6) q1 v0 G2
abbrev rmX1_runCommands : Room := { frames := 18, cells := 2515, slots := 82951, locals := 402 }
def wX1_hash (Q : hG → Int64 → Prop) (v0 : Int64) (v2 : Int64) (G : hG) : Prop :=
  Q G (((31 : Int64) * v0) + v2)
abbrev rmX1_hash : Room := { frames := 0, cells := 0, slots := 0, locals := 0 }
def wX1_hashWord_b13 (Q : hG → Int64 → Prop) (r13 : Nat → Nat → Int64 → Int32 → hG → Prop) (v0 : Nat) (v3 : Nat) (v4 : Int64) (v6 : Int32) (G : hG) : Prop :=
  ((7 : Int32) ≤ v6 → (hcl G v0 1 ∧ hlet (hR G v0 0) fun y3 => ∃ a4, y3 = some a4 ∧ (hcl G a4 2 ∧ (wX2_risk (fun G5 z6 => wX1_hash (fun G11 z12 => Q G11 z12) v4 ((z6).toInt64) G5) a4 v3 G)))) ∧ (¬ (7 : Int32) ≤ v6 → (hcl G v0 1 ∧ hlet (hR G v0 0) fun y17 => ∃ a18, y17 = some a18 ∧ (hcl G a18 2 ∧ (wX2_wordValue (fun G19 z20 => wX1_hash (fun G25 z26 => r13 v0 v3 z26 (v6 + (1 : Int32)) G25) v4 ((z20).toInt64) G19) a18 v3 v6 G))))
def wX1_hashWord_l13 (Q : hG → Int64 → Prop) (n : Nat) : Nat → Nat → Int64 → Int32 → hG → Prop := Nat.rec (motive := fun _ => Nat → Nat → Int64 → Int32 → hG → Prop) (fun _ _ _ _ _ => False) (fun _ ih => wX1_hashWord_b13 Q ih) n
def wX1_hashWord (Q : hG → Int64 → Prop) (v0 : Nat) (v1 : Int64) (v3 : Nat) (G : hG) : Prop :=
  hcl G v3 4 ∧ (wX1_hash (fun G2 z3 => wX1_hashWord_l13 Q 8 v0 v3 z3 (0 : Int32) G2) v1 (hJ G v3 0) G)
abbrev rmX1_hashWord : Room := { frames := 14, cells := 62, slots := 1915, locals := 309 }
def wX1_digest_b217 (Q : hG → Int64 → Prop) (r217 : Nat → Int64 → Int32 → hG → Prop) (v0 : Nat) (v1 : Int64) (v3 : Int32) (G : hG) : Prop :=
  hcl G v0 1 ∧ hlet (hR G v0 0) fun y2 => ∃ a3, y2 = some a3 ∧ (hcl G a3 2 ∧ hlet (hR G a3 5) fun y5 => ∃ a6, y5 = some a6 ∧ (hcl G a6 3 ∧ (wX3_size (fun G7 z8 => ((z8 * (3 : Int32)) ≤ v3 → (Q G7 v1)) ∧ (¬ (z8 * (3 : Int32)) ≤ v3 → (hcl G7 v0 1 ∧ hlet (hR G7 v0 0) fun y15 => ∃ a16, y15 = some a16 ∧ (hcl G7 a16 2 ∧ (wX2_logValue (fun G17 z18 => wX1_hash (fun G23 z24 => r217 v0 z24 (v3 + (1 : Int32)) G23) v1 z18 G17) a16 (v3 / (3 : Int32)) (v3 - v3 / (3 : Int32) * (3 : Int32)) G7))))) a6 G)))
def wX1_digest_l217 (Q : hG → Int64 → Prop) (n : Nat) : Nat → Int64 → Int32 → hG → Prop := Nat.rec (motive := fun _ => Nat → Int64 → Int32 → hG → Prop) (fun _ _ _ _ => False) (fun _ ih => wX1_digest_b217 Q ih) n
def wX1_digest_b175 (Q : hG → Int64 → Prop) (r175 : Nat → Int64 → Int32 → hG → Prop) (v0 : Nat) (v1 : Int64) (v3 : Int32) (G : hG) : Prop :=
  hcl G v0 1 ∧ hlet (hR G v0 0) fun y2 => ∃ a3, y2 = some a3 ∧ (hcl G a3 2 ∧ hlet (hR G a3 2) fun y5 => ∃ a6, y5 = some a6 ∧ (hcl G a6 3 ∧ (wX3_size (fun G7 z8 => ((z8 * (3 : Int32)) ≤ v3 → (∃ n, wX1_digest_l217 Q n v0 v1 (0 : Int32) G7)) ∧ (¬ (z8 * (3 : Int32)) ≤ v3 → (hcl G7 v0 1 ∧ hlet (hR G7 v0 0) fun y16 => ∃ a17, y16 = some a17 ∧ (hcl G7 a17 2 ∧ (wX2_pairValue (fun G18 z19 => wX1_hash (fun G24 z25 => r175 v0 z25 (v3 + (1 : Int32)) G24) v1 z19 G18) a17 (v3 / (3 : Int32)) (v3 - v3 / (3 : Int32) * (3 : Int32)) G7))))) a6 G)))
def wX1_digest_l175 (Q : hG → Int64 → Prop) (n : Nat) : Nat → Int64 → Int32 → hG → Prop := Nat.rec (motive := fun _ => Nat → Int64 → Int32 → hG → Prop) (fun _ _ _ _ => False) (fun _ ih => wX1_digest_b175 Q ih) n
def wX1_digest_b140 (Q : hG → Int64 → Prop) (r140 : Nat → Int64 → Option Nat → hG → Prop) (v0 : Nat) (v1 : Int64) (v3 : Option Nat) (G : hG) : Prop :=
  ∃ a1, v3 = some a1 ∧ (hcl G a1 11 ∧ (wJ15_hasNext_c11 (fun G2 z3 => (z3 = 0 → (∃ n, wX1_digest_l175 Q n v0 v1 (0 : Int32) G2)) ∧ (¬ z3 = 0 → (hcl G2 a1 11 ∧ (wJ17_next (fun G10 z11 => (∀ y, z11 = some y → hcl G10 y 4) ∧ (∃ a18, z11 = some a18 ∧ (hcl G10 a18 4 ∧ (wX1_hash (fun G20 z21 => r140 v0 z21 (some a1) G20) v1 (hJ G10 a18 0) G10)))) a1 G2)))) a1 G))
def wX1_digest_l140 (Q : hG → Int64 → Prop) (n : Nat) : Nat → Int64 → Option Nat → hG → Prop := Nat.rec (motive := fun _ => Nat → Int64 → Option Nat → hG → Prop) (fun _ _ _ _ => False) (fun _ ih => wX1_digest_b140 Q ih) n
def wX1_digest_b98 (Q : hG → Int64 → Prop) (r98 : Nat → Int64 → Option Nat → hG → Prop) (v0 : Nat) (v1 : Int64) (v3 : Option Nat) (G : hG) : Prop :=
  ∃ a1, v3 = some a1 ∧ (hcl G a1 11 ∧ (wJ15_hasNext_c11 (fun G2 z3 => (z3 = 0 → (hcl G2 v0 1 ∧ hlet (hR G2 v0 0) fun y10 => ∃ a11, y10 = some a11 ∧ (hcl G2 a11 2 ∧ hlet (hR G2 a11 1) fun y13 => ∃ a14, y13 = some a14 ∧ (hcl G2 a14 17 ∧ (wJ4_iterator (fun G15 z16 => ∃ n, wX1_digest_l140 Q n v0 v1 z16 G15) a14 G2))))) ∧ (¬ z3 = 0 → (hcl G2 a1 11 ∧ (wJ17_next (fun G22 z23 => (∀ y, z23 = some y → hcl G22 y 4) ∧ (∃ a30, z23 = some a30 ∧ (hcl G22 v0 1 ∧ (wX1_hashWord (fun G31 z32 => r98 v0 z32 (some a1) G31) v0 v1 a30 G22)))) a1 G2)))) a1 G))
def wX1_digest_l98 (Q : hG → Int64 → Prop) (n : Nat) : Nat → Int64 → Option Nat → hG → Prop := Nat.rec (motive := fun _ => Nat → Int64 → Option Nat → hG → Prop) (fun _ _ _ _ => False) (fun _ ih => wX1_digest_b98 Q ih) n
def wX1_digest_b55 (Q : hG → Int64 → Prop) (r55 : Nat → Int64 → Nat → Int32 → Int32 → hG → Prop) (v0 : Nat) (v1 : Int64) (v3 : Nat) (v4 : Int32) (v5 : Int32) (G : hG) : Prop :=
  (v4 ≤ v5 → (hcl G v0 1 ∧ hlet (hR G v0 0) fun y3 => ∃ a4, y3 = some a4 ∧ (hcl G a4 2 ∧ hlet (hR G a4 0) fun y6 => ∃ a7, y6 = some a7 ∧ (hcl G a7 9 ∧ (wJ1_keySet (fun G8 z9 => ∃ a14, z9 = some a14 ∧ (hcl G8 a14 14 ∧ (wJ18_iterator (fun G15 z16 => wX1_digest_l98 Q 21 v0 v1 z16 G15) a14 G8))) a7 G))))) ∧ (¬ v4 ≤ v5 → (hcl G v3 100 ∧ vp_in v5 (hN G v3) ∧ (wX1_hash (fun G25 z26 => r55 v0 z26 v3 v4 (v5 + (1 : Int32)) G25) v1 (((hI G v3 (Int32.toNatClampNeg v5))).toInt64) G)))
def wX1_digest_l55 (Q : hG → Int64 → Prop) (n : Nat) : Nat → Int64 → Nat → Int32 → Int32 → hG → Prop := Nat.rec (motive := fun _ => Nat → Int64 → Nat → Int32 → Int32 → hG → Prop) (fun _ _ _ _ _ _ => False) (fun _ ih => wX1_digest_b55 Q ih) n
def wX1_digest_b17 (Q : hG → Int64 → Prop) (r17 : Nat → Int64 → Int32 → hG → Prop) (v0 : Nat) (v1 : Int64) (v3 : Int32) (G : hG) : Prop :=
  ((12 : Int32) ≤ v3 → (hcl G v0 1 ∧ hlet (hR G v0 0) fun y3 => ∃ a4, y3 = some a4 ∧ (hcl G a4 2 ∧ hlet (hR G a4 6) fun y6 => ∃ a8, y6 = some a8 ∧ (hcl G a8 100 ∧ (∃ n, wX1_digest_l55 Q n v0 v1 a8 (nI (hN G a8)) (0 : Int32) G))))) ∧ (¬ (12 : Int32) ≤ v3 → (hcl G v0 1 ∧ (wX1_wholeOf (fun G12 z13 => wX1_hash (fun G18 z19 => r17 v0 z19 (v3 + (1 : Int32)) G18) v1 ((z13).toInt64) G12) v0 v3 G)))
def wX1_digest_l17 (Q : hG → Int64 → Prop) (n : Nat) : Nat → Int64 → Int32 → hG → Prop := Nat.rec (motive := fun _ => Nat → Int64 → Int32 → hG → Prop) (fun _ _ _ _ => False) (fun _ ih => wX1_digest_b17 Q ih) n
def wX1_digest (Q : hG → Int64 → Prop) (v0 : Nat) (G : hG) : Prop :=
  hcl G v0 1 ∧ hlet (hR G v0 1) fun y2 => ∃ a3, y2 = some a3 ∧ (hcl G a3 18 ∧ (wJ6_size (fun G4 z5 => wX1_hash (fun G10 z11 => wX1_digest_l17 Q 13 v0 z11 (0 : Int32) G10) (43304 : Int64) ((z5).toInt64) G4) a3 G))
abbrev rmX1_digest : Room := { frames := 15, cells := 1392, slots := 42200, locals := 335 }
