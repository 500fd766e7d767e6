/-! ===== plain law 42: public methods that change the book ===== -/
set_option maxRecDepth 100000
def rgN (lo hi : Nat) (v : Int32) : Option Nat := if lo ≤ v.toNatClampNeg ∧ v.toNatClampNeg ≤ hi ∧ nI v.toNatClampNeg = v then some v.toNatClampNeg else none
theorem rgN_some {lo hi n : Nat} {v : Int32} (hh : hi < 2 ^ 31) : rgN lo hi v = some n ↔ lo ≤ n ∧ n ≤ hi ∧ v = nI n := by
  unfold rgN
  constructor
  · intro h
    split at h
    · rename_i z
      cases h
      exact ⟨z.1, z.2.1, z.2.2.symm⟩
    · cases h
  · rintro ⟨h1, h2, h3⟩
    have : v.toNatClampNeg = n := by rw [h3]; exact nI_clamp (by omega)
    rw [this, if_pos ⟨h1, h2, h3.symm⟩]
theorem rgN_none {lo hi : Nat} {v : Int32} (hh : hi < 2 ^ 31) (h : rgN lo hi v = none) : ¬ ∃ n, lo ≤ n ∧ n ≤ hi ∧ v = nI n := by
  rintro ⟨n, hn⟩
  rw [(rgN_some hh).mpr hn] at h
  cases h
/-- what a public call owes -/
def fin {α : Type} (o : gO) (G : hG) (xa c : Nat) (st : Ste) (r : Except Bool (Ste × α)) (Q : hG → α → Prop) (X : Bool → hG → Prop) : Prop :=
  ∀ o' G', gFr xM o G o' G' → (∀ k, r = .error k → pX o' G' xa c st → X k G') ∧ ∀ st' z, r = .ok (st', z) → pX o' G' xa c st' → Q G' z
theorem pX.mono {o : gO} {G : hG} {xa c c' : Nat} {st : Ste} (h : pX o G xa c st) (hc : c ≤ c') : pX o G xa c' st := by
  obtain ⟨a, sl, ta, b, ids, L, h⟩ := h
  exact ⟨a, sl, ta, b, ids, L, h.mono hc⟩
theorem pX.f0 {o o' : gO} {G G' : hG} {xa c : Nat} {st : Ste} (h : pX o G xa c st) (hf : gFr gNo o G o' G') : pX o' G' xa c st := by
  obtain ⟨a, sl, ta, b, ids, L, h⟩ := h
  exact ⟨a, sl, ta, b, ids, L, h.fr hf (fun _ z => z) (fun _ _ _ z => z) (fun z => z)⟩
section P42
variable {o : gO} {G : hG} {xa c a sl ta b : Nat} {ids L : List Nat} {st : Ste} {l : Wd}
theorem fin.mv {α : Type} {o' : gO} {G' : hG} {r : Except Bool (Ste × α)} {Q : hG → α → Prop} {X : Bool → hG → Prop} (h : fin o G xa c st r Q X) (hf : gFr xM o G o' G') : fin o' G' xa c st r Q X := fun o2 G2 f2 => h o2 G2 (hf.tr f2)
theorem fin.er {α : Type} {r : Except Bool (Ste × α)} {Q : hG → α → Prop} {X : Bool → hG → Prop} {k : Bool} (h : fin o G xa c st r Q X) (e : r = .error k) (hx : pX o G xa c st) : X k G := (h o G gFr.rf).1 k e hx
theorem fin.ok {α : Type} {o' : gO} {G' : hG} {r : Except Bool (Ste × α)} {Q : hG → α → Prop} {X : Bool → hG → Prop} {st' : Ste} {z : α} (h : fin o G xa c st r Q X) (e : r = .ok (st', z)) (hf : gFr xM o G o' G') (hx : pX o' G' xa c st') : Q G' z := (h o' G' hf).2 st' z e hx
theorem s_newL {P : Nat → hG → Prop} {X : Bool → hG → Prop} {w : Int64} (hX : pz w = none → ∀ o' G', (∀ M, gFr M o G o' G') → X false G') (hQ : ∀ l q o' G', pz w = some l → pW o' G' q l → (∀ M, gFr M o G o' G') → P q G') : ∀ q, hfr G q → hlet (hnw G q 4 0) fun G2 => wX5_init (fun G6 => P q G6) X q w G2 := by
  intro q hq
  refine hlet_i ?_
  have cq : hC (hnw G q 4 0) q = some (4, true) := by rw [hC_nw, if_pos rfl]
  have f : ∀ M, gFr M o G (gU o q (0, 0)) (gNW (hnw G q 4 0) q w) := fun M => ((gFr.rf.nw (0, 0) hq).sJ (Or.inl hq)).sI (Or.inl hq)
  exact s_Letters cq (fun z => hX z _ _ f) fun l hl => hQ l q _ _ hl (gNW_at hl cq gU_s) f
/-- a copy of the book is made -/
theorem s_cpy {OP : Nat → hG → Prop} (h : pX o G xa c st) (hOP : ∀ b' o' G' q y a sl ta b ids L, 4 ≤ b' → b' ∉ b :: ids → pBr o' G' b' q y st.1 → pXr o' G' xa c a sl ta b ids L st → gFr xM o G o' G' → OP q G') : hcl G xa 1 ∧ hlet (hR G xa 0) fun y2 => ∃ a3, y2 = some a3 ∧ (hcl G a3 2 ∧ (wX2_copy (fun G4 z5 => ∃ a11, z5 = some a11 ∧ (hcl G4 a11 2 ∧ (OP a11 G4))) a3 G)) := by
  obtain ⟨a, sl, ta, b, ids, L, h⟩ := h
  have hh := h
  obtain ⟨⟨a1, a2, a3, -⟩, -, -, -, ⟨⟨x, e1⟩, -⟩, -⟩ := h
  exact ⟨hclt a1, hlet_i ⟨a, a3, hclt e1.1.1, s_xcopy hh fun b' o' G' q y k1 k2 k3 k4 k5 => ⟨q, rfl, hclt k3.1.1, hOP b' o' G' q y _ _ _ _ _ _ k1 k2 k3 k4 k5⟩⟩⟩
theorem pXr.oth {o' : gO} {G' : hG} {b' : Nat} (h : pXr o G xa c a sl ta b ids L st) (hf : gFr (qM b') o G o' G') (hb : b' ∉ b :: ids) (h4 : 4 ≤ b') : pXr o' G' xa c a sl ta b ids L st := by
  have hi := h.2.2.2.2.2.1.2
  refine h.fr hf (fun i z => ?_) (fun k i hk z => ?_) (qM_0 (by omega))
  · rcases z with z | z
    · have : 1 = b' := z
      omega
    · have : 1 = 0 := z.1
      omega
  · rcases z with z | z
    · have z' : k = b' := z
      rw [z'] at hk
      exact hb hk
    · have z' : k = 0 := z.1
      have := hi k hk
      omega
def nxt (st : Ste) (B : Bk) : Ste := (B, psh st.2.1 st.1, st.2.2)
/-- the changed copy becomes the book -/
theorem s_bec {Q : hG → Int32 → Prop} {o' : gO} {G' : hG} {b' a' : Nat} {y : Nat → Nat} {B' : Bk} {z : Int32} (h : pXr o G xa c a sl ta b ids L st) (hf : gFr (qM b') o G o' G') (hb' : b' ∉ b :: ids) (h4 : 4 ≤ b') (hB : pBr o' G' b' a' y B') (hg : gB c B') (hQ : ∀ o'' G'', pX o'' G'' xa c (nxt st B') → gFr xM o G o'' G'' → Q G'' z) : hcl G' xa 1 ∧ (wX1_become (fun G28 z29 => Q G28 z29) xa a' z G') := by
  have h' := h.oth hf hb' h4
  exact ⟨hclt h'.1.1, s_become h' hb' h4 ⟨y, hB⟩ hg fun o2 G2 k1 k2 => hQ o2 G2 k1 ((hf.x h4).tr k2)⟩
def xAddWord (st : Ste) (w : Int64) (n : Int32) : Except Bool (Ste × Int32) := match pz w with
  | none => .error false
  | some l => match rgN 1 999 n with
    | none => .error false
    | some k => if l ∉ keys st.1 ∧ 20 ≤ (bW st.1).length then .error true else .ok (nxt st (oW st.1 (insA l k (bW st.1))), nI (cnt st.1 l))
theorem s_xaddWord {Q : hG → Int32 → Prop} {X : Bool → hG → Prop} {w : Int64} {n : Int32} (h : pX o G xa c st) (hF : fin o G xa c st (xAddWord st w n) Q X) : wX1_addWord Q X xa w n G := by
  unfold wX1_addWord
  unfold xAddWord at hF
  refine s_newL (o := o) (fun z o' G' f => ?_) (fun l q o' G' hl hq f => ?_)
  · rw [z] at hF
    exact (hF.mv (f _)).er rfl (h.f0 (f _))
  · rw [hl] at hF
    refine s_cpy (h.f0 (f _)) fun b' o2 G2 q2 y a sl ta b ids L k1 k2 k3 k4 k5 => ?_
    have hF2 := (hF.mv (f _)).mv k5
    have hx2 : pX o2 G2 xa c st := ⟨_, _, _, _, _, _, k4⟩
    have hgB := k4.2.2.2.2.1.2
    refine s_baddWord (by omega) hgB k3 k4.2.2.2.2.2.2.2.1 (hq.fr k5 xM_0) (fun z => ?_) (fun z z2 z3 => ?_) (fun m m1 m2 m3 m4 o3 G3 r1 r2 => ?_)
    · refine hF2.er ?_ hx2
      have : rgN 1 999 n = none := by
        cases e : rgN 1 999 n with
        | none => rfl
        | some k => exact absurd ⟨k, (rgN_some (by decide)).mp e⟩ z
      show (match rgN 1 999 n with | none => _ | some k => _) = _
      rw [this]
    · refine hF2.er ?_ hx2
      obtain ⟨m, hm⟩ := z
      show (match rgN 1 999 n with | none => _ | some k => _) = _
      rw [(rgN_some (by decide)).mpr hm]
      exact if_pos ⟨z2, z3⟩
    · refine s_bec k4 r2 k2 k1 r1 (hgB.addWord k3.pw m1 m2 m4) fun o4 G4 v1 v2 => hF2.ok ?_ v2 v1
      show (match rgN 1 999 n with | none => _ | some k => _) = _
      rw [(rgN_some (by decide)).mpr ⟨m1, m2, m3⟩]
      refine if_neg fun y => ?_
      rcases m4 with m4 | m4
      · exact y.1 m4
      · omega
def xDropWord (st : Ste) (w : Int64) : Except Bool (Ste × Int32) := match pz w with
  | none => .error false
  | some l => .ok (nxt st (oW st.1 (rmA l (bW st.1))), nI (cnt st.1 l))
theorem s_xdropWord {Q : hG → Int32 → Prop} {X : Bool → hG → Prop} {w : Int64} (h : pX o G xa c st) (hF : fin o G xa c st (xDropWord st w) Q X) : wX1_dropWord Q X xa w G := by
  unfold wX1_dropWord
  unfold xDropWord at hF
  refine s_newL (o := o) (fun z o' G' f => ?_) (fun l q o' G' hl hq f => ?_)
  · rw [z] at hF
    exact (hF.mv (f _)).er rfl (h.f0 (f _))
  · rw [hl] at hF
    refine s_cpy (h.f0 (f _)) fun b' o2 G2 q2 y a sl ta b ids L k1 k2 k3 k4 k5 => ?_
    have hF2 := (hF.mv (f _)).mv k5
    have hgB := k4.2.2.2.2.1.2
    refine s_bdropWord (by omega) k3 (hq.fr k5 xM_0) (fun o3 G3 r1 r2 => ?_)
    exact s_bec k4 r2 k2 k1 r1 hgB.dropWord fun o4 G4 v1 v2 => hF2.ok rfl v2 v1
def xAddName (st : Ste) (w : Int64) : Except Bool (Ste × Int32) := match pz w with
  | none => .error false
  | some l => if l ∉ bN st.1 ∧ 10 ≤ (bN st.1).length then .error true else .ok (nxt st (oN st.1 (insS l (bN st.1))), if l ∈ bN st.1 then 0 else 1)
theorem s_xaddName {Q : hG → Int32 → Prop} {X : Bool → hG → Prop} {w : Int64} (h : pX o G xa c st) (hF : fin o G xa c st (xAddName st w) Q X) : wX1_addName Q X xa w G := by
  unfold wX1_addName
  unfold xAddName at hF
  refine s_newL (o := o) (fun z o' G' f => ?_) (fun l q o' G' hl hq f => ?_)
  · rw [z] at hF
    exact (hF.mv (f _)).er rfl (h.f0 (f _))
  · rw [hl] at hF
    refine s_cpy (h.f0 (f _)) fun b' o2 G2 q2 y a sl ta b ids L k1 k2 k3 k4 k5 => ?_
    have hF2 := (hF.mv (f _)).mv k5
    have hx2 : pX o2 G2 xa c st := ⟨_, _, _, _, _, _, k4⟩
    have hgB := k4.2.2.2.2.1.2
    refine s_baddName (by omega) hgB k3 (hq.fr k5 xM_0) (fun z z2 => hF2.er (if_pos ⟨z, z2⟩) hx2) (fun m4 o3 G3 r1 r2 => ?_)
    refine s_bec k4 r2 k2 k1 r1 (hgB.addName k3.2.2.1.pw m4) fun o4 G4 v1 v2 => hF2.ok (if_neg fun y => ?_) v2 v1
    rcases m4 with m4 | m4
    · exact y.1 m4
    · omega
def xDropName (st : Ste) (w : Int64) : Except Bool (Ste × Int32) := match pz w with
  | none => .error false
  | some l => .ok (nxt st (oN st.1 (rmN l (bN st.1))), if l ∈ bN st.1 then 1 else 0)
theorem s_xdropName {Q : hG → Int32 → Prop} {X : Bool → hG → Prop} {w : Int64} (h : pX o G xa c st) (hF : fin o G xa c st (xDropName st w) Q X) : wX1_dropName Q X xa w G := by
  unfold wX1_dropName
  unfold xDropName at hF
  refine s_newL (o := o) (fun z o' G' f => ?_) (fun l q o' G' hl hq f => ?_)
  · rw [z] at hF
    exact (hF.mv (f _)).er rfl (h.f0 (f _))
  · rw [hl] at hF
    refine s_cpy (h.f0 (f _)) fun b' o2 G2 q2 y a sl ta b ids L k1 k2 k3 k4 k5 => ?_
    have hF2 := (hF.mv (f _)).mv k5
    have hgB := k4.2.2.2.2.1.2
    refine s_bdropName (by omega) k3 (hq.fr k5 xM_0) (fun o3 G3 r1 r2 => ?_)
    exact s_bec k4 r2 k2 k1 r1 hgB.dropName fun o4 G4 v1 v2 => hF2.ok rfl v2 v1
def xSetStick (st : Ste) (v w : Int32) : Except Bool (Ste × Int32) := match rgN 0 25 v with
  | none => .error false
  | some i => match rgN 0 2 w with
    | none => .error false
    | some _ => .ok (nxt st (oK st.1 (upS (bK st.1) i w)), bK st.1 i)
theorem s_xsetStick {Q : hG → Int32 → Prop} {X : Bool → hG → Prop} {v w : Int32} (h : pX o G xa c st) (hF : fin o G xa c st (xSetStick st v w) Q X) : wX1_setStick Q X xa v w G := by
  unfold wX1_setStick
  refine s_cpy h fun b' o2 G2 q2 y a sl ta b ids L k1 k2 k3 k4 k5 => ?_
  have hF2 := hF.mv k5
  have hx2 : pX o2 G2 xa c st := ⟨_, _, _, _, _, _, k4⟩
  have hgB := k4.2.2.2.2.1.2
  refine s_bsetStick (by omega) k3 (fun z => hF2.er ?_ hx2) (fun i n i1 n1 i2 n2 G3 r1 r2 => ?_)
  · unfold xSetStick
    cases e : rgN 0 25 v with
    | none => rfl
    | some i =>
      cases e2 : rgN 0 2 w with
      | none => rfl
      | some n => exact absurd ⟨⟨i, (rgN_some (by decide)).mp e⟩, n, (rgN_some (by decide)).mp e2⟩ z
  · rw [n2] at r1
    refine s_bec k4 r2 k2 k1 r1 (hgB.setStick n1) fun o4 G4 v1 v2 => hF2.ok ?_ v2 v1
    unfold xSetStick
    rw [(rgN_some (by decide)).mpr ⟨Nat.zero_le _, i1, i2⟩, (rgN_some (by decide)).mpr ⟨Nat.zero_le _, n1, n2⟩, n2]
def okEb (v w : Int32) : Bool := if v = 0 then (rgN 0 12 w).isSome else if v = 1 then (rgN 1 9 w).isSome else if v = 2 then (rgN 1 5 w).isSome else false
theorem okEb_iff {v w : Int32} : okEb v w = true ↔ okE v w := by
  have key : ∀ {lo hi : Nat}, hi < 2 ^ 31 → ((rgN lo hi w).isSome = true ↔ ∃ n, lo ≤ n ∧ n ≤ hi ∧ w = nI n) := fun {lo hi} hh => by
    rw [Option.isSome_iff_exists]
    exact ⟨fun ⟨n, hn⟩ => ⟨n, (rgN_some hh).mp hn⟩, fun ⟨n, hn⟩ => ⟨n, (rgN_some hh).mpr hn⟩⟩
  unfold okEb okE
  by_cases e0 : v = 0
  · rw [if_pos e0, key (by decide)]
    subst e0
    constructor
    · exact fun z => Or.inl ⟨rfl, z⟩
    · rintro (z | z | z)
      · exact z.2
      · exact absurd z.1 (by decide)
      · exact absurd z.1 (by decide)
  · rw [if_neg e0]
    by_cases e1 : v = 1
    · rw [if_pos e1, key (by decide)]
      subst e1
      constructor
      · exact fun z => Or.inr (Or.inl ⟨rfl, z⟩)
      · rintro (z | z | z)
        · exact absurd z.1 (by decide)
        · exact z.2
        · exact absurd z.1 (by decide)
    · rw [if_neg e1]
      by_cases e2 : v = 2
      · rw [if_pos e2, key (by decide)]
        constructor
        · exact fun z => Or.inr (Or.inr ⟨e2, z⟩)
        · rintro (z | z | z)
          · exact absurd z.1 e0
          · exact absurd z.1 e1
          · exact z.2
      · rw [if_neg e2]
        constructor
        · intro z
          cases z
        · rintro (z | z | z)
          · exact absurd z.1 e0
          · exact absurd z.1 e1
          · exact absurd z.1 e2
def xSet (st : Ste) (v w : Int32) : Except Bool (Ste × Int32) := if okEb v w then .ok (nxt st (oE st.1 (upS (bE st.1) v.toNatClampNeg w)), bE st.1 v.toNatClampNeg) else .error false
theorem s_xset {Q : hG → Int32 → Prop} {X : Bool → hG → Prop} {v w : Int32} (h : pX o G xa c st) (hF : fin o G xa c st (xSet st v w) Q X) : wX1_set Q X xa v w G := by
  unfold wX1_set
  refine s_cpy h fun b' o2 G2 q2 y a sl ta b ids L k1 k2 k3 k4 k5 => ?_
  have hF2 := hF.mv k5
  have hx2 : pX o2 G2 xa c st := ⟨_, _, _, _, _, _, k4⟩
  have hgB := k4.2.2.2.2.1.2
  refine s_bset (by omega) k3 (fun z => hF2.er ?_ hx2) (fun i i1 i2 i3 G3 r1 r2 => ?_)
  · unfold xSet
    exact if_neg fun y => z (okEb_iff.mp y)
  · have i3' := i3
    rw [i2] at i3'
    refine s_bec k4 r2 k2 k1 r1 (hgB.set i1 i3') fun o4 G4 v1 v2 => hF2.ok ?_ v2 v1
    unfold xSet
    rw [if_pos (okEb_iff.mpr i3), i2, nI_clamp (by omega)]
def xAllow (st : Ste) (w v : Int64) : Except Bool (Ste × Int32) := match pz w with
  | none => .error false
  | some l => match pz v with
    | none => .error false
    | some m => .ok (nxt st (alw st.1 l m).1, nI (alw st.1 l m).2)
theorem s_xallow {Q : hG → Int32 → Prop} {X : Bool → hG → Prop} {w v : Int64} (h : pX o G xa c st) (hF : fin o G xa c st (xAllow st w v) Q X) : wX1_allow Q X xa w v G := by
  unfold wX1_allow
  unfold xAllow at hF
  refine s_newL (o := o) (fun z o' G' f => ?_) (fun l q o' G' hl hq f => ?_)
  · rw [z] at hF
    exact (hF.mv (f _)).er rfl (h.f0 (f _))
  · rw [hl] at hF
    refine s_newL (o := o') (fun z o2 G2 f2 => ?_) (fun m p o2 G2 hm hp f2 => ?_)
    · rw [z] at hF
      exact ((hF.mv (f _)).mv (f2 _)).er rfl ((h.f0 (f _)).f0 (f2 _))
    · rw [hm] at hF
      refine s_cpy ((h.f0 (f _)).f0 (f2 _)) fun b' o3 G3 q2 y a sl ta b ids L k1 k2 k3 k4 k5 => ?_
      have hF2 := ((hF.mv (f _)).mv (f2 _)).mv k5
      have hgB := k4.2.2.2.2.1.2
      refine s_ballow (by omega) k3 ((hq.fr (f2 gNo) (fun z => z)).fr k5 xM_0) (hp.fr k5 xM_0) (fun o4 G4 r1 r2 => ?_)
      exact s_bec k4 r2 k2 k1 r1 (gB_alw hgB) fun o5 G5 v1 v2 => hF2.ok rfl v2 v1
/-- becomeWith -/
theorem s_becW {Q : hG → Int64 → Prop} {o' : gO} {G' : hG} {b' a' v : Nat} {y : Nat → Nat} {B' : Bk} {m : Wd} (h : pXr o G xa c a sl ta b ids L st) (hf : gFr (qM b') o G o' G') (hb' : b' ∉ b :: ids) (h4 : 4 ≤ b') (hB : pBr o' G' b' a' y B') (hv : pW o' G' v m) (hg : gB (c + 1) B') (hQ : ∀ o'' G'', pX o'' G'' xa (c + 1) (nxt st B') → gFr xM o G o'' G'' → Q G'' (cd m)) : hcl G' xa 1 ∧ (wX1_becomeWith (fun G29 z30 => Q G29 z30) xa a' v G') := by
  have h' := (h.oth hf hb' h4).mono (Nat.le_succ c)
  unfold wX1_becomeWith
  refine ⟨hclt h'.1.1, hclt h'.1.1, s_become h' hb' h4 ⟨y, hB⟩ hg fun o2 G2 k1 k2 => ?_⟩
  have v2 := hv.fr k2 xM_0
  refine ⟨hclt v2.1, ?_⟩
  rw [v2.2.2.1]
  exact hQ o2 G2 k1 ((hf.x h4).tr k2)
def xCorrect (st : Ste) (w : Int64) : Except Bool (Ste × Int64) := match pz w with
  | none => .error false
  | some l => .ok (nxt st (crt st.1 l).1, cd (crt st.1 l).2)
theorem s_xcorrect {Q : hG → Int64 → Prop} {X : Bool → hG → Prop} {w : Int64} (h : pX o G xa c st) (hF : fin o G xa (c + 1) st (xCorrect st w) Q X) : wX1_correct Q X xa w G := by
  unfold wX1_correct
  unfold xCorrect at hF
  refine s_newL (o := o) (fun z o' G' f => ?_) (fun l q o' G' hl hq f => ?_)
  · rw [z] at hF
    exact (hF.mv (f _)).er rfl ((h.f0 (f _)).mono (Nat.le_succ c))
  · rw [hl] at hF
    refine s_cpy (h.f0 (f _)) fun b' o2 G2 q2 y a sl ta b ids L k1 k2 k3 k4 k5 => ?_
    have hF2 := (hF.mv (f _)).mv k5
    have hgB := k4.2.2.2.2.1.2
    have hkC := k4.2.2.2.2.2.2
    refine s_bcorrect (by omega) hgB k3 hkC.2.2 hkC.2.1 (hq.fr k5 xM_0) (fun o3 G3 v r1 rv r2 => ⟨v, rfl, ?_⟩)
    exact s_becW k4 r2 k2 k1 r1 rv (gB_crt hgB k3.pw k3.2.2.1.pw) fun o4 G4 v1 v2 => hF2.ok rfl v2 v1
def xTakeBack (st : Ste) : Except Bool (Ste × Int64) := match tkb st.1 with
  | none => .error true
  | some (B', w) => .ok (nxt st B', cd w)
theorem s_xtakeBack {Q : hG → Int64 → Prop} {X : Bool → hG → Prop} (h : pX o G xa c st) (hF : fin o G xa (c + 1) st (xTakeBack st) Q X) : wX1_takeBack Q X xa G := by
  unfold wX1_takeBack
  unfold xTakeBack at hF
  refine s_cpy h fun b' o2 G2 q2 y a sl ta b ids L k1 k2 k3 k4 k5 => ?_
  have hF2 := hF.mv k5
  have hx2 : pX o2 G2 xa c st := ⟨_, _, _, _, _, _, k4⟩
  have hgB := k4.2.2.2.2.1.2
  refine s_btakeBack (by omega) hgB k3 (fun z => hF2.er ?_ (hx2.mono (Nat.le_succ c))) (fun B' w e o3 G3 v r1 rv r2 => ⟨v, rfl, ?_⟩)
  · rw [z]
  · refine s_becW k4 r2 k2 k1 r1 rv (gB_tkb hgB k3.2.2.1.pw e) fun o4 G4 v1 v2 => hF2.ok ?_ v2 v1
    rw [e]
end P42
