/-! ===== plain law 7: TreeMap: turns, putting in ===== -/
set_option maxRecDepth 100000
theorem s_pO {Q : hG → Option Nat → Prop} {G : hG} {n : Nat} {y : Option Nat} (hc : hC G n = some (10, true)) (e : hR G n 4 = y) (hQ : Q G y) : wJ1_parentOf Q (some n) G := by
  unfold wJ1_parentOf wJ1_parentOf_b12
  refine cm_some ⟨hclt hc, hlet_i ?_⟩
  rw [e]
  exact hQ
theorem s_lO {Q : hG → Option Nat → Prop} {G : hG} {n : Nat} {y : Option Nat} (hc : hC G n = some (10, true)) (e : hR G n 2 = y) (hQ : Q G y) : wJ1_leftOf Q (some n) G := by
  unfold wJ1_leftOf wJ1_leftOf_b12
  refine cm_some ⟨hclt hc, hlet_i ?_⟩
  rw [e]
  exact hQ
theorem s_rO {Q : hG → Option Nat → Prop} {G : hG} {n : Nat} {y : Option Nat} (hc : hC G n = some (10, true)) (e : hR G n 3 = y) (hQ : Q G y) : wJ1_rightOf Q (some n) G := by
  unfold wJ1_rightOf wJ1_rightOf_b12
  refine cm_some ⟨hclt hc, hlet_i ?_⟩
  rw [e]
  exact hQ
theorem s_pO0 {Q : hG → Option Nat → Prop} {G : hG} (hQ : Q G none) : wJ1_parentOf Q none G := cm_none hQ
theorem s_lO0 {Q : hG → Option Nat → Prop} {G : hG} (hQ : Q G none) : wJ1_leftOf Q none G := cm_none hQ
theorem s_rO0 {Q : hG → Option Nat → Prop} {G : hG} (hQ : Q G none) : wJ1_rightOf Q none G := cm_none hQ
theorem hftc {x : Int32} (h : x = 0 ∨ x = 1) : hFt .boolean x := by
  rcases h with h | h <;> rw [h]
  · exact hft0
  · exact hft1
theorem s_cO {Q : hG → Int32 → Prop} {G : hG} {n : Nat} (hc : hC G n = some (10, true)) (h5 : hI G n 5 = 0 ∨ hI G n 5 = 1) (hQ : Q G (hI G n 5)) : wJ1_colorOf Q (some n) G := by
  unfold wJ1_colorOf wJ1_colorOf_b12
  exact cm_some ⟨hclt hc, hftc h5, hQ⟩
theorem s_cO0 {Q : hG → Int32 → Prop} {G : hG} (hQ : Q G 1) : wJ1_colorOf Q none G := cm_none ⟨hft1, hQ⟩
theorem s_sC {Q : hG → Prop} {G : hG} {n : Nat} {c : Int32} (hc : hC G n = some (10, true)) (h5 : c = 0 ∨ c = 1) (hQ : Q (hsI G n 5 c)) : wJ1_setColor Q (some n) c G := by
  unfold wJ1_setColor wJ1_setColor_b9
  exact cm_some ⟨hc, hftc h5, hlet_i hQ⟩
theorem s_sC0 {Q : hG → Prop} {G : hG} {c : Int32} (hQ : Q G) : wJ1_setColor Q none c G := cm_none hQ
section PTM7
variable {o o' : gO} {G G' : hG} {u : Nat × Nat} {t s s' : Nat} {L : List Nat} {k : Nat → Wd} {v : Nat → Option Nat} {sub sub' : Nat → List Nat} {root root' : Option Nat}
theorem pTM.up (h : pTM o G u t s L k v sub root) (hu : u ≠ (0, 0)) (hf : gFr (gOnly u) o G o' G') (h4 : hI G' t 4 = nI s') (h2 : hR G' t 2 = hR G t 2) (h3 : hR G' t 3 = root') (g0 : ∀ n, n ∈ L → hR G' n 0 = hR G n 0) (g1 : ∀ n, n ∈ L → hR G' n 1 = hR G n 1) (g5 : ∀ n, n ∈ L → hI G' n 5 = 0 ∨ hI G' n 5 = 1) (ti : TI (fl G' 2) (fl G' 3) (fl G' 4) sub' L root') (w6 : hR G' t 6 = hR G t 6) (w7 : hR G' t 7 = hR G t 7) (w1 : hR G' t 1 = hR G t 1) : pTM o' G' u t s' L k v sub' root' := by
  have h0 : ¬ gOnly u (0, 0) := fun z => hu z.symm
  refine ⟨hf.C h.c, (hf.O h.c).trans h.ow, h4, h2.trans h.cmp, h3, h.nt, h.len, fun n e => ?_, ti, ?_⟩
  · obtain ⟨a1, a2, ⟨a, a3, a4⟩, a5, a6⟩ := h.nd n e
    exact ⟨hf.C a1, (hf.O a1).trans a2, ⟨a, (g0 n e).trans a3, a4.fr hf h0⟩, (g1 n e).trans a5, g5 n e⟩
  · have key : ∀ (j ci : Nat), hR G' t j = hR G t j → (∀ q, hR G t j = some q → hC G q = some (ci, true) ∧ o q = (0, 0) ∧ hR G q 0 = some t) → (∀ q, hR G' t j = some q → hC G' q = some (ci, true) ∧ o' q = (0, 0) ∧ hR G' q 0 = some t) := by
      intro j ci hj g q e
      rw [hj] at e
      obtain ⟨b1, b2, b3⟩ := g q e
      exact ⟨hf.C b1, (hf.O b1).trans b2, (hf.S b1 b2 h0).R b3⟩
    exact ⟨key 6 16 w6 h.vw.1, key 7 14 w7 h.vw.2.1, key 1 15 w1 h.vw.2.2⟩
theorem pTM.col (h : pTM o G u t s L k v sub root) (hu : u ≠ (0, 0)) {n : Nat} (hn : n ∈ L) {c : Int32} (hc : c = 0 ∨ c = 1) : pTM o (hsI G n 5 c) u t s L k v sub root := by
  refine h.up hu (gFr.rf.sI (Or.inr (h.no hn))) ?_ rfl h.rt (fun _ _ => rfl) (fun _ _ => rfl) (fun b hb => ?_) h.ti rfl rfl rfl
  · rw [hI_sI, if_neg (fun z => by have := z.2; omega)]
    exact h.sz
  · rw [hI_sI]
    by_cases e : b = n ∧ 5 = 5
    · rw [if_pos e]
      exact hc
    · rw [if_neg e]
      exact (h.nd b hb).2.2.2.2
/-- what a left turn does to the heap -/
def rotLR (G G' : hG) (t p r : Nat) : Prop := hC G' = hC G ∧ hN G' = hN G ∧ hI G' = hI G ∧ hJ G' = hJ G ∧ hK G' = hK G ∧
  (∀ b, hR G' b 2 = if b = r then some p else if hR G p 4 = some b ∧ hR G b 2 = some p then some r else hR G b 2) ∧
  (∀ b, b ≠ t → hR G' b 3 = if b = p then hR G r 2 else if hR G p 4 = some b ∧ hR G b 2 ≠ some p then some r else hR G b 3) ∧
  (∀ b, hR G' b 4 = if b = p then some r else if b = r then hR G p 4 else if hR G r 2 = some b then some p else hR G b 4) ∧
  hR G' t 3 = (if hR G p 4 = none then some r else hR G t 3) ∧ ∀ b j, j ≠ 2 → j ≠ 3 → j ≠ 4 → hR G' b j = hR G b j
def rotRR (G G' : hG) (t p r : Nat) : Prop := hC G' = hC G ∧ hN G' = hN G ∧ hI G' = hI G ∧ hJ G' = hJ G ∧ hK G' = hK G ∧
  (∀ b, b ≠ t → hR G' b 3 = if b = r then some p else if hR G p 4 = some b ∧ hR G b 3 = some p then some r else hR G b 3) ∧
  (∀ b, hR G' b 2 = if b = p then hR G r 3 else if hR G p 4 = some b ∧ hR G b 3 ≠ some p then some r else hR G b 2) ∧
  (∀ b, hR G' b 4 = if b = p then some r else if b = r then hR G p 4 else if hR G r 3 = some b then some p else hR G b 4) ∧
  hR G' t 3 = (if hR G p 4 = none then some r else hR G t 3) ∧ ∀ b j, j ≠ 2 → j ≠ 3 → j ≠ 4 → hR G' b j = hR G b j
theorem s_rotL {Q : hG → Prop} {p r : Nat} (h : pTM o G u t s L k v sub root) (hp : p ∈ L) (hr : hR G p 3 = some r) (hQ : ∀ G', rotLR G G' t p r → Q G') : wJ1_rotateLeft Q t (some p) G := by
  have hrL := h.ti.rc hp hr
  have hpr : r ≠ p := h.ti.rne hp hr
  have tp : p ≠ t := fun z => h.nt (by rw [← z]; exact hp)
  have tr : r ≠ t := fun z => h.nt (by rw [← z]; exact hrL.1)
  have cp := h.nc hp
  have cr := h.nc hrL.1
  unfold wJ1_rotateLeft
  refine cm_some ⟨hclt cp, hlet_i ⟨r, hr, hclt cr, hlet_i ⟨cp, hlet_i ?_⟩⟩⟩
  -- behind the left child of r
  have k32 : ∀ G2, hC G2 = hC G → hN G2 = hN G → hI G2 = hI G → hJ G2 = hJ G → hK G2 = hK G → (∀ b j, hR G2 b j = if b = p ∧ j = 3 then hR G r 2 else if hR G r 2 = some b ∧ j = 4 then some p else hR G b j) → wJ1_rotateLeft_b32 Q t p r G2 := by
    intro G2 e1 e2 e3 e4 e5 e6
    have a1 : hR G2 p 4 = hR G p 4 := by
      rw [e6, if_neg (fun z => by have := z.2; omega), if_neg (fun z => ?_)]
      have := h.ti.lc hrL.1 z.1
      exact h.ti.p2 hrL.1 hrL.2 this.2
    unfold wJ1_rotateLeft_b32
    refine ⟨hclt (by rw [e1]; exact cp), hlet_i ⟨by rw [e1]; exact cr, hlet_i ⟨hclt (by rw [hC_sR, e1]; exact cp), hlet_i ?_⟩⟩⟩
    have a2 : hR (hsR G2 r 4 (hR G2 p 4)) p 4 = hR G p 4 := by
      rw [hR_sR, if_neg (fun z => hpr z.1.symm)]
      exact a1
    rw [a2]
    have fin : ∀ G3, hC G3 = hC G → hN G3 = hN G → hI G3 = hI G → hJ G3 = hJ G → hK G3 = hK G → (∀ G4, hC G4 = hC G3 → hN G4 = hN G3 → hI G4 = hI G3 → hJ G4 = hJ G3 → hK G4 = hK G3 → (∀ b j, hR G4 b j = if b = p ∧ j = 4 then some r else if b = r ∧ j = 2 then some p else hR G3 b j) → Q G4) → wJ1_rotateLeft_b85 Q p r G3 := by
      intro G3 f1 f2 f3 f4 f5 hq
      unfold wJ1_rotateLeft_b85 wJ1_rotateLeft_b95
      refine ⟨by rw [f1]; exact cr, hlet_i ⟨by rw [hC_sR, f1]; exact cp, hlet_i (hq _ rfl rfl rfl rfl rfl fun b j => ?_)⟩⟩
      rw [hR_sR, hR_sR]
    cases e : hR G p 4 with
    | none =>
      refine cm_none ⟨by rw [hC_sR, e1]; exact h.c, hlet_i (fin _ e1 e2 e3 e4 e5 fun G4 f1 f2 f3 f4 f5 f6 => hQ G4 ⟨f1.trans e1, f2.trans e2, f3.trans e3, f4.trans e4, f5.trans e5, fun b => ?_, fun b hb => ?_, fun b => ?_, ?_, fun b j j2 j3 j4 => ?_⟩)⟩
      all_goals simp only [f6, hR_sR, e6, a1, e]
      · grind
      · grind
      · grind
      · grind
      · grind
    | some q =>
      have hq := h.ti.pa hp e
      have qp : q ≠ p := fun z => h.ti.p1 hp (by rw [z] at e; exact e)
      have qr : q ≠ r := fun z => h.ti.p2 hrL.1 hrL.2 (by rw [z] at e; exact e)
      have tq : q ≠ t := fun z => h.nt (by rw [← z]; exact hq.1)
      have cq := h.nc hq.1
      have a3 : hR (hsR G2 r 4 (hR G2 p 4)) q 2 = hR G q 2 := by
        rw [hR_sR, if_neg (fun z => by have := z.2; omega), e6, if_neg (fun z => by have := z.2; omega), if_neg (fun z => by have := z.2; omega)]
      refine cm_some ⟨hclt (by rw [hC_sR, e1]; exact cp), hlet_i ⟨q, rfl, hclt (by rw [hC_sR, e1]; exact cq), hlet_i ?_⟩⟩
      rw [a3]
      refine br_c (fun c => ⟨hclt (by rw [hC_sR, e1]; exact cp), hlet_i ⟨q, rfl, by rw [hC_sR, e1]; exact cq, hlet_i ?_⟩⟩) (fun c => ⟨hclt (by rw [hC_sR, e1]; exact cp), hlet_i ⟨q, rfl, by rw [hC_sR, e1]; exact cq, hlet_i ?_⟩⟩)
      · refine fin _ e1 e2 e3 e4 e5 fun G4 f1 f2 f3 f4 f5 f6 => hQ G4 ⟨f1.trans e1, f2.trans e2, f3.trans e3, f4.trans e4, f5.trans e5, fun b => ?_, fun b hb => ?_, fun b => ?_, ?_, fun b j j2 j3 j4 => ?_⟩
        all_goals simp only [f6, hR_sR, e6, a1, e]
        · grind
        · grind
        · grind
        · grind
        · grind
      · refine fin _ e1 e2 e3 e4 e5 fun G4 f1 f2 f3 f4 f5 f6 => hQ G4 ⟨f1.trans e1, f2.trans e2, f3.trans e3, f4.trans e4, f5.trans e5, fun b => ?_, fun b hb => ?_, fun b => ?_, ?_, fun b j j2 j3 j4 => ?_⟩
        all_goals simp only [f6, hR_sR, e6, a1, e]
        · grind
        · grind
        · grind
        · grind
        · grind
  refine ⟨hclt cr, hlet_i ?_⟩
  have b1 : hR (hsR G p 3 (hR G r 2)) r 2 = hR G r 2 := by rw [hR_sR, if_neg (fun z => by have := z.2; omega)]
  rw [b1]
  cases e : hR G r 2 with
  | none =>
    refine cm_none (k32 _ rfl rfl rfl rfl rfl fun b j => ?_)
    rw [hR_sR, e, if_neg (fun z : none = some b ∧ j = 4 => by cases z.1)]
  | some c =>
    have cc := h.nc (h.ti.lc hrL.1 e).1
    refine cm_some ⟨hclt cr, hlet_i ⟨c, rfl, cc, hlet_i (k32 _ rfl rfl rfl rfl rfl fun b j => ?_)⟩⟩
    rw [hR_sR, hR_sR, e]
    grind
theorem s_rotR {Q : hG → Prop} {p r : Nat} (h : pTM o G u t s L k v sub root) (hp : p ∈ L) (hr : hR G p 2 = some r) (hQ : ∀ G', rotRR G G' t p r → Q G') : wJ1_rotateRight Q t (some p) G := by
  have hrL := h.ti.lc hp hr
  have hpr : r ≠ p := h.ti.lne hp hr
  have tp : p ≠ t := fun z => h.nt (by rw [← z]; exact hp)
  have tr : r ≠ t := fun z => h.nt (by rw [← z]; exact hrL.1)
  have cp := h.nc hp
  have cr := h.nc hrL.1
  unfold wJ1_rotateRight
  refine cm_some ⟨hclt cp, hlet_i ⟨r, hr, hclt cr, hlet_i ⟨cp, hlet_i ?_⟩⟩⟩
  -- behind the left child of r
  have k32 : ∀ G2, hC G2 = hC G → hN G2 = hN G → hI G2 = hI G → hJ G2 = hJ G → hK G2 = hK G → (∀ b j, hR G2 b j = if b = p ∧ j = 2 then hR G r 3 else if hR G r 3 = some b ∧ j = 4 then some p else hR G b j) → wJ1_rotateRight_b32 Q t p r G2 := by
    intro G2 e1 e2 e3 e4 e5 e6
    have a1 : hR G2 p 4 = hR G p 4 := by
      rw [e6, if_neg (fun z => by have := z.2; omega), if_neg (fun z => ?_)]
      have := h.ti.rc hrL.1 z.1
      exact h.ti.p2 hrL.1 hrL.2 this.2
    unfold wJ1_rotateRight_b32
    refine ⟨hclt (by rw [e1]; exact cp), hlet_i ⟨by rw [e1]; exact cr, hlet_i ⟨hclt (by rw [hC_sR, e1]; exact cp), hlet_i ?_⟩⟩⟩
    have a2 : hR (hsR G2 r 4 (hR G2 p 4)) p 4 = hR G p 4 := by
      rw [hR_sR, if_neg (fun z => hpr z.1.symm)]
      exact a1
    rw [a2]
    have fin : ∀ G3, hC G3 = hC G → hN G3 = hN G → hI G3 = hI G → hJ G3 = hJ G → hK G3 = hK G → (∀ G4, hC G4 = hC G3 → hN G4 = hN G3 → hI G4 = hI G3 → hJ G4 = hJ G3 → hK G4 = hK G3 → (∀ b j, hR G4 b j = if b = p ∧ j = 4 then some r else if b = r ∧ j = 3 then some p else hR G3 b j) → Q G4) → wJ1_rotateRight_b85 Q p r G3 := by
      intro G3 f1 f2 f3 f4 f5 hq
      unfold wJ1_rotateRight_b85 wJ1_rotateRight_b95
      refine ⟨by rw [f1]; exact cr, hlet_i ⟨by rw [hC_sR, f1]; exact cp, hlet_i (hq _ rfl rfl rfl rfl rfl fun b j => ?_)⟩⟩
      rw [hR_sR, hR_sR]
    cases e : hR G p 4 with
    | none =>
      refine cm_none ⟨by rw [hC_sR, e1]; exact h.c, hlet_i (fin _ e1 e2 e3 e4 e5 fun G4 f1 f2 f3 f4 f5 f6 => hQ G4 ⟨f1.trans e1, f2.trans e2, f3.trans e3, f4.trans e4, f5.trans e5, fun b hb => ?_, fun b => ?_, fun b => ?_, ?_, fun b j j2 j3 j4 => ?_⟩)⟩
      all_goals simp only [f6, hR_sR, e6, a1, e]
      · grind
      · grind
      · grind
      · grind
      · grind
    | some q =>
      have hq := h.ti.pa hp e
      have qp : q ≠ p := fun z => h.ti.p1 hp (by rw [z] at e; exact e)
      have qr : q ≠ r := fun z => h.ti.p2 hrL.1 hrL.2 (by rw [z] at e; exact e)
      have tq : q ≠ t := fun z => h.nt (by rw [← z]; exact hq.1)
      have cq := h.nc hq.1
      have a3 : hR (hsR G2 r 4 (hR G2 p 4)) q 3 = hR G q 3 := by
        rw [hR_sR, if_neg (fun z => by have := z.2; omega), e6, if_neg (fun z => by have := z.2; omega), if_neg (fun z => by have := z.2; omega)]
      refine cm_some ⟨hclt (by rw [hC_sR, e1]; exact cp), hlet_i ⟨q, rfl, hclt (by rw [hC_sR, e1]; exact cq), hlet_i ?_⟩⟩
      rw [a3]
      refine br_c (fun c => ⟨hclt (by rw [hC_sR, e1]; exact cp), hlet_i ⟨q, rfl, by rw [hC_sR, e1]; exact cq, hlet_i ?_⟩⟩) (fun c => ⟨hclt (by rw [hC_sR, e1]; exact cp), hlet_i ⟨q, rfl, by rw [hC_sR, e1]; exact cq, hlet_i ?_⟩⟩)
      · refine fin _ e1 e2 e3 e4 e5 fun G4 f1 f2 f3 f4 f5 f6 => hQ G4 ⟨f1.trans e1, f2.trans e2, f3.trans e3, f4.trans e4, f5.trans e5, fun b hb => ?_, fun b => ?_, fun b => ?_, ?_, fun b j j2 j3 j4 => ?_⟩
        all_goals simp only [f6, hR_sR, e6, a1, e]
        · grind
        · grind
        · grind
        · grind
        · grind
      · refine fin _ e1 e2 e3 e4 e5 fun G4 f1 f2 f3 f4 f5 f6 => hQ G4 ⟨f1.trans e1, f2.trans e2, f3.trans e3, f4.trans e4, f5.trans e5, fun b hb => ?_, fun b => ?_, fun b => ?_, ?_, fun b j j2 j3 j4 => ?_⟩
        all_goals simp only [f6, hR_sR, e6, a1, e]
        · grind
        · grind
        · grind
        · grind
        · grind
  refine ⟨hclt cr, hlet_i ?_⟩
  have b1 : hR (hsR G p 2 (hR G r 3)) r 3 = hR G r 3 := by rw [hR_sR, if_neg (fun z => by have := z.2; omega)]
  rw [b1]
  cases e : hR G r 3 with
  | none =>
    refine cm_none (k32 _ rfl rfl rfl rfl rfl fun b j => ?_)
    rw [hR_sR, e, if_neg (fun z : none = some b ∧ j = 4 => by cases z.1)]
  | some c =>
    have cc := h.nc (h.ti.rc hrL.1 e).1
    refine cm_some ⟨hclt cr, hlet_i ⟨c, rfl, cc, hlet_i (k32 _ rfl rfl rfl rfl rfl fun b j => ?_)⟩⟩
    rw [hR_sR, hR_sR, e]
    grind
theorem rotLR.fr {p r : Nat} (h : pTM o G u t s L k v sub root) (hp : p ∈ L) (hr : hR G p 3 = some r) (R : rotLR G G' t p r) : gFr (gOnly u) o G o G' := by
  have hrL := h.ti.rc hp hr
  obtain ⟨e1, e2, e3, e4, e5, r2, r3, r4, rt, ro⟩ := R
  refine ⟨fun a c hc => ⟨by rw [e1]; exact hc, rfl, fun hm => ?_⟩, e5⟩
  have aL : a ∉ L := fun z => hm (h.no z)
  have at' : a ≠ t := fun z => hm (by rw [z]; exact h.ow)
  have ap : a ≠ p := fun z => aL (by rw [z]; exact hp)
  have ar : a ≠ r := fun z => aL (by rw [z]; exact hrL.1)
  have apr : hR G p 4 ≠ some a := fun z => aL (h.ti.pa hp z).1
  have arl : hR G r 2 ≠ some a := fun z => aL (h.ti.lc hrL.1 z).1
  refine ⟨by rw [e2], by rw [e3], by rw [e4], funext fun j => ?_⟩
  by_cases j2 : j = 2
  · rw [j2, r2, if_neg ar, if_neg (fun z => apr z.1)]
  · by_cases j3 : j = 3
    · rw [j3, r3 a at', if_neg ap, if_neg (fun z => apr z.1)]
    · by_cases j4 : j = 4
      · rw [j4, r4, if_neg ap, if_neg ar, if_neg arl]
      · rw [ro a j j2 j3 j4]
theorem rotRR.fr {p r : Nat} (h : pTM o G u t s L k v sub root) (hp : p ∈ L) (hr : hR G p 2 = some r) (R : rotRR G G' t p r) : gFr (gOnly u) o G o G' := by
  have hrL := h.ti.lc hp hr
  obtain ⟨e1, e2, e3, e4, e5, r2, r3, r4, rt, ro⟩ := R
  refine ⟨fun a c hc => ⟨by rw [e1]; exact hc, rfl, fun hm => ?_⟩, e5⟩
  have aL : a ∉ L := fun z => hm (h.no z)
  have at' : a ≠ t := fun z => hm (by rw [z]; exact h.ow)
  have ap : a ≠ p := fun z => aL (by rw [z]; exact hp)
  have ar : a ≠ r := fun z => aL (by rw [z]; exact hrL.1)
  have apr : hR G p 4 ≠ some a := fun z => aL (h.ti.pa hp z).1
  have arl : hR G r 3 ≠ some a := fun z => aL (h.ti.rc hrL.1 z).1
  refine ⟨by rw [e2], by rw [e3], by rw [e4], funext fun j => ?_⟩
  by_cases j2 : j = 2
  · rw [j2, r3, if_neg ap, if_neg (fun z => apr z.1)]
  · by_cases j3 : j = 3
    · rw [j3, r2 a at', if_neg ar, if_neg (fun z => apr z.1)]
    · by_cases j4 : j = 4
      · rw [j4, r4, if_neg ap, if_neg ar, if_neg arl]
      · rw [ro a j j2 j3 j4]
theorem pTM.rotL {p r : Nat} (h : pTM o G u t s L k v sub root) (hu : u ≠ (0, 0)) (hp : p ∈ L) (hr : hR G p 3 = some r) (R : rotLR G G' t p r) : ∃ sub' root', pTM o G' u t s L k v sub' root' ∧ (∀ x, x ≠ p → x ≠ r → sub' x = sub x) ∧ sub' r = sub p := by
  have hrL := h.ti.rc hp hr
  have f := R.fr h hp hr
  obtain ⟨e1, e2, e3, e4, e5, r2, r3, r4, rt, ro⟩ := R
  have bt : ∀ b, b ∈ L → b ≠ t := fun b hb z => h.nt (by rw [← z]; exact hb)
  have ti := h.ti.rotL (lf' := fl G' 2) (rt' := fl G' 3) (pr' := fl G' 4) hp hr (fun b _ => r2 b) (fun b hb => r3 b (bt b hb)) (fun b _ => r4 b) rfl
  refine ⟨_, _, h.up hu f ?_ ?_ ?_ (fun n _ => ro n 0 (by decide) (by decide) (by decide)) (fun n _ => ro n 1 (by decide) (by decide) (by decide)) (fun n hn => ?_) ti (ro t 6 (by decide) (by decide) (by decide)) (ro t 7 (by decide) (by decide) (by decide)) (ro t 1 (by decide) (by decide) (by decide)), fun x h1 h2 => ?_, ?_⟩
  · rw [e3]
    exact h.sz
  · rw [r2, if_neg (fun z => bt r hrL.1 z.symm), if_neg (fun z => h.nt (h.ti.pa hp z.1).1)]
  · rw [rt, h.rt]
  · rw [e3]
    exact (h.nd n hn).2.2.2.2
  · simp only [if_neg h1, if_neg h2]
  · simp only [if_true]
theorem pTM.rotR {p r : Nat} (h : pTM o G u t s L k v sub root) (hu : u ≠ (0, 0)) (hp : p ∈ L) (hr : hR G p 2 = some r) (R : rotRR G G' t p r) : ∃ sub' root', pTM o G' u t s L k v sub' root' ∧ (∀ x, x ≠ p → x ≠ r → sub' x = sub x) ∧ sub' r = sub p := by
  have hrL := h.ti.lc hp hr
  have f := R.fr h hp hr
  obtain ⟨e1, e2, e3, e4, e5, r2, r3, r4, rt, ro⟩ := R
  have bt : ∀ b, b ∈ L → b ≠ t := fun b hb z => h.nt (by rw [← z]; exact hb)
  have ti := ((h.ti.mir).rotL (lf' := fl G' 3) (rt' := fl G' 2) (pr' := fl G' 4) (List.mem_reverse.mpr hp) hr (fun b hb => r2 b (bt b (List.mem_reverse.mp hb))) (fun b hb => r3 b) (fun b _ => r4 b) rfl).mir
  rw [List.reverse_reverse] at ti
  refine ⟨_, _, h.up hu f ?_ ?_ ?_ (fun n _ => ro n 0 (by decide) (by decide) (by decide)) (fun n _ => ro n 1 (by decide) (by decide) (by decide)) (fun n hn => ?_) ti (ro t 6 (by decide) (by decide) (by decide)) (ro t 7 (by decide) (by decide) (by decide)) (ro t 1 (by decide) (by decide) (by decide)), fun x h1 h2 => ?_, ?_⟩
  · rw [e3]
    exact h.sz
  · rw [r3, if_neg (fun z => bt p hp z.symm), if_neg (fun z => h.nt (h.ti.pa hp z.1).1)]
  · rw [rt, h.rt]
  · rw [e3]
    exact (h.nd n hn).2.2.2.2
  · simp only [if_neg h1, if_neg h2, List.reverse_reverse]
  · simp only [if_true, List.reverse_reverse]
end PTM7
