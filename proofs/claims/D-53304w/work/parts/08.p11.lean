/-! ===== plain law 11: TreeMap: mending behind a taking out (both sides written by gen11.py) ===== -/
set_option maxRecDepth 100000
section PTM11
variable {o o' : gO} {G G' : hG} {u : Nat × Nat} {t s s' : Nat} {L : List Nat} {k : Nat → Wd} {v : Nat → Option Nat} {sub sub' : Nat → List Nat} {root root' : Option Nat}
theorem TI.nin {lf rt pr : Nat → Option Nat} (h : TI lf rt pr sub L root) {n g : Nat} (hn : n ∈ L) (e : pr n = some g) : g ∉ sub n := by
  obtain ⟨hg, hc⟩ := h.pa hn e
  have hnd := h.nds hg
  rcases hc with hc | hc
  · rw [h.lsub hg hc] at hnd
    intro z
    exact (List.nodup_append.mp hnd).2.2 g z g List.mem_cons_self rfl
  · rw [h.rsub hg hc] at hnd
    intro z
    exact (List.nodup_cons.mp (List.nodup_append.mp hnd).2.1).1 z
theorem TI.dis {lf rt pr : Nat → Option Nat} (h : TI lf rt pr sub L root) {p l r x : Nat} (hp : p ∈ L) (hl : lf p = some l) (hr : rt p = some r) : (x ∈ sub l → x ≠ p ∧ x ∉ sub r ∧ x ∈ sub p) ∧ (x ∈ sub r → x ≠ p ∧ x ∉ sub l ∧ x ∈ sub p) := by
  have hnd := h.nds hp
  have hs := h.eq hp
  rw [hl, hr] at hs
  have hs2 : sub p = sub l ++ p :: sub r := hs
  rw [hs2] at hnd ⊢
  obtain ⟨n1, n2, n3⟩ := List.nodup_append.mp hnd
  refine ⟨fun hx => ⟨n3 x hx p List.mem_cons_self, fun z => n3 x hx x (List.mem_cons_of_mem _ z) rfl, List.mem_append_left _ hx⟩, fun hx => ⟨fun z => (List.nodup_cons.mp n2).1 (by rw [← z]; exact hx), fun z => n3 x z x (List.mem_cons_of_mem _ hx) rfl, List.mem_append_right _ (List.mem_cons_of_mem _ hx)⟩⟩
def kp (G0 G : hG) (p0 : Nat) : Prop := hR G p0 2 = hR G0 p0 2 ∧ hR G p0 3 = hR G0 p0 3
theorem kp.tr {G0 G1 G2 : hG} {p0 : Nat} (h : kp G0 G1 p0) (h' : kp G1 G2 p0) : kp G0 G2 p0 := ⟨h'.1.trans h.1, h'.2.trans h.2⟩
theorem rotLR.keep {p r x : Nat} (R : rotLR G G' t p r) (xt : x ≠ t) (h1 : x ≠ p) (h2 : x ≠ r) (h3 : hR G p 4 ≠ some x) : kp G G' x := by
  obtain ⟨-, -, -, -, -, r2, r3, -, -, -⟩ := R
  exact ⟨by rw [r2, if_neg h2, if_neg (fun z => h3 z.1)], by rw [r3 x xt, if_neg h1, if_neg (fun z => h3 z.1)]⟩
theorem rotRR.keep {p r x : Nat} (R : rotRR G G' t p r) (xt : x ≠ t) (h1 : x ≠ p) (h2 : x ≠ r) (h3 : hR G p 4 ≠ some x) : kp G G' x := by
  obtain ⟨-, -, -, -, -, r3, r2, -, -, -⟩ := R
  exact ⟨by rw [r2, if_neg h1, if_neg (fun z => h3 z.1)], by rw [r3 x xt, if_neg h2, if_neg (fun z => h3 z.1)]⟩
theorem rotLR.I {p r : Nat} (R : rotLR G G' t p r) : hI G' = hI G := R.2.2.1
theorem rotRR.I {p r : Nat} (R : rotRR G G' t p r) : hI G' = hI G := R.2.2.1
theorem rotLR.T {p r : Nat} (R : rotLR G G' t p r) : sT G G' t := congrFun R.2.2.1 t
theorem rotRR.T {p r : Nat} (R : rotRR G G' t p r) : sT G G' t := congrFun R.2.2.1 t
theorem rotLR.P {p r : Nat} (R : rotLR G G' t p r) (b : Nat) : hR G' b 4 = if b = p then some r else if b = r then hR G p 4 else if hR G r 2 = some b then some p else hR G b 4 := R.2.2.2.2.2.2.2.1 b
theorem rotRR.P {p r : Nat} (R : rotRR G G' t p r) (b : Nat) : hR G' b 4 = if b = p then some r else if b = r then hR G p 4 else if hR G r 3 = some b then some p else hR G b 4 := R.2.2.2.2.2.2.2.1 b
theorem rotLR.F2 {p r : Nat} (R : rotLR G G' t p r) (b : Nat) : hR G' b 2 = if b = r then some p else if hR G p 4 = some b ∧ hR G b 2 = some p then some r else hR G b 2 := R.2.2.2.2.2.1 b
theorem rotLR.F3 {p r : Nat} (R : rotLR G G' t p r) (b : Nat) (h : b ≠ t) : hR G' b 3 = if b = p then hR G r 2 else if hR G p 4 = some b ∧ hR G b 2 ≠ some p then some r else hR G b 3 := R.2.2.2.2.2.2.1 b h
theorem rotRR.F3 {p r : Nat} (R : rotRR G G' t p r) (b : Nat) (h : b ≠ t) : hR G' b 3 = if b = r then some p else if hR G p 4 = some b ∧ hR G b 3 = some p then some r else hR G b 3 := R.2.2.2.2.2.1 b h
theorem rotRR.F2 {p r : Nat} (R : rotRR G G' t p r) (b : Nat) : hR G' b 2 = if b = p then hR G r 3 else if hR G p 4 = some b ∧ hR G b 3 ≠ some p then some r else hR G b 2 := R.2.2.2.2.2.2.1 b
theorem colT {n : Nat} {c : Int32} (h : t ≠ n) : sT G (hsI G n 5 c) t := funext fun j => by rw [hI_sI, if_neg (fun z => h z.1)]
theorem sT.tr {G1 G2 G3 : hG} (h : sT G1 G2 t) (h' : sT G2 G3 t) : sT G1 G3 t := Eq.trans h' h
/-- an optional node is coloured -/
def colO (G : hG) (x : Option Nat) (c : Int32) : hG := match x with
  | none => G
  | some n => hsI G n 5 c
theorem s_sCO {Q : hG → Prop} {x : Option Nat} {c : Int32} (hx : ∀ n, x = some n → hC G n = some (10, true)) (h5 : c = 0 ∨ c = 1) (hQ : Q (colO G x c)) : wJ1_setColor Q x c G := by
  cases x with
  | none => exact s_sC0 hQ
  | some n => exact s_sC (hx n rfl) h5 hQ
theorem colO_R {x : Option Nat} {c : Int32} : hR (colO G x c) = hR G := by cases x <;> rfl
theorem colO_C {x : Option Nat} {c : Int32} : hC (colO G x c) = hC G := by cases x <;> rfl
theorem colO_all {x : Option Nat} {c : Int32} (h : pTM o G u t s L k v sub root) (hu : u ≠ (0, 0)) (hx : ∀ n, x = some n → n ∈ L) (h5 : c = 0 ∨ c = 1) : pTM o (colO G x c) u t s L k v sub root ∧ gFr (gOnly u) o G o (colO G x c) ∧ sT G (colO G x c) t := by
  cases x with
  | none => exact ⟨h, gFr.rf, rfl⟩
  | some n =>
    have hn := hx n rfl
    exact ⟨h.col hu hn h5, gFr.rf.sI (Or.inr (h.no hn)), colT (fun z => h.nt (by rw [z]; exact hn))⟩
theorem s_pOO {Q : hG → Option Nat → Prop} {x : Option Nat} (hx : ∀ n, x = some n → hC G n = some (10, true)) (hQ : Q G (x.bind fun n => hR G n 4)) : wJ1_parentOf Q x G := by
  cases x with
  | none => exact s_pO0 hQ
  | some n => exact s_pO (hx n rfl) rfl hQ
theorem s_lOO {Q : hG → Option Nat → Prop} {x : Option Nat} (hx : ∀ n, x = some n → hC G n = some (10, true)) (hQ : Q G (x.bind fun n => hR G n 2)) : wJ1_leftOf Q x G := by
  cases x with
  | none => exact s_lO0 hQ
  | some n => exact s_lO (hx n rfl) rfl hQ
theorem s_rOO {Q : hG → Option Nat → Prop} {x : Option Nat} (hx : ∀ n, x = some n → hC G n = some (10, true)) (hQ : Q G (x.bind fun n => hR G n 3)) : wJ1_rightOf Q x G := by
  cases x with
  | none => exact s_rO0 hQ
  | some n => exact s_rO (hx n rfl) rfl hQ
def colV (G : hG) : Option Nat → Int32
  | none => 1
  | some n => hI G n 5
theorem s_cOO {Q : hG → Int32 → Prop} {x : Option Nat} (h : pTM o G u t s L k v sub root) (hx : ∀ n, x = some n → n ∈ L) (hQ : Q G (colV G x)) : wJ1_colorOf Q x G := by
  cases x with
  | none => exact s_cO0 hQ
  | some n => exact s_cO (h.nc (hx n rfl)) (h.col5 (hx n rfl)) hQ
theorem s_b143L {Q : hG → Prop} {r0 : Nat → Option Nat → hG → Prop} {x p sb p0 : Nat} (h : pTM o G u t s L k v sub root) (hu : u ≠ (0, 0)) (hx : x ∈ L) (hp : hR G x 4 = some p) (hl : hR G p 2 = some x) (hs : hR G p 3 = some sb) (h0 : p0 ∈ sub x)
    (hQ : ∀ G' sub' root' r, pTM o G' u t s L k v sub' root' → gFr (gOnly u) o G o G' → sT G G' t → kp G G' p0 → root' = some r → r ∈ L → r0 t (some r) G') : wJ1_fixAfterDeletion_b143 Q r0 t (some x) (some sb) G := by
  have hpL := (h.ti.pa hx hp).1
  have hsL := (h.ti.rc hpL hs).1
  have g1 := (h.ti.dis (x := p0) hpL hl hs).1 h0
  have p0L := h.ti.sL hx h0
  have p0t : p0 ≠ t := fun z => h.nt (by rw [← z]; exact p0L)
  unfold wJ1_fixAfterDeletion_b143 wJ1_fixAfterDeletion_b183
  refine s_pO (h.nc hx) hp (s_cO (h.nc hpL) (h.col5 hpL) (s_sC (h.nc hsL) (h.col5 hpL) (s_pO (h.nc hx) hp (s_sC (h.nc hpL) (Or.inr rfl) (s_rO (h.nc hsL) rfl (s_sCO (fun n z => h.nc (h.ti.rc hsL z).1) (Or.inr rfl) ?_))))))
  have h1 := h.col hu hsL (h.col5 hpL)
  have h2 := h1.col hu hpL (c := 1) (Or.inr rfl)
  have tn : ∀ n, n ∈ L → t ≠ n := fun n hn z => h.nt (by rw [z]; exact hn)
  have f2 : gFr (gOnly u) o G o (hsI (hsI G sb 5 (hI G p 5)) p 5 1) := (gFr.rf.sI (Or.inr (h.no hsL))).sI (Or.inr (h.no hpL))
  have t2 : sT G (hsI (hsI G sb 5 (hI G p 5)) p 5 1) t := sT.tr (colT (tn sb hsL)) (colT (tn p hpL))
  obtain ⟨h3, f3, t3⟩ := colO_all (x := hR G sb 3) (c := 1) h2 hu (fun n z => (h.ti.rc hsL z).1) (Or.inr rfl)
  obtain ⟨G3, hG3⟩ : ∃ G3, G3 = colO (hsI (hsI G sb 5 (hI G p 5)) p 5 1) (hR G sb 3) 1 := ⟨_, rfl⟩
  have eR : hR G3 = hR G := by rw [hG3, colO_R]; rfl
  rw [show hR (hsI (hsI G sb 5 (hI G p 5)) p 5 1) sb 3 = hR G sb 3 from rfl]
  rw [← hG3] at h3 f3 t3 ⊢
  refine s_pO (h3.nc hx) (by rw [eR]; exact hp) ⟨hclt h3.c, s_rotL h3 hpL (by rw [eR]; exact hs) fun G4 R => ⟨?_, hlet_i ?_⟩⟩
  all_goals obtain ⟨sub4, root4, h4, -, -⟩ := h3.rotL hu hpL (by rw [eR]; exact hs) R
  · exact hclt h4.c
  rw [h4.rt]
  cases e : root4 with
  | none =>
    have := h4.ti.ro
    rw [e] at this
    rw [← this] at hx
    cases hx
  | some r =>
    rw [e] at h4
    refine hQ G4 sub4 (some r) r h4 ((f2.tr f3).tr (R.fr h3 hpL (by rw [eR]; exact hs))) (sT.tr t2 (sT.tr t3 R.T)) ?_ rfl (h4.ti.rp rfl).1
    have kk : kp G3 G4 p0 := R.keep p0t g1.1 (fun z => g1.2.1 (by rw [z]; exact h.ti.self hsL)) (fun z => by
      rw [eR] at z
      exact h.ti.nin hpL z g1.2.2)
    have k3 : kp G G3 p0 := ⟨by rw [eR], by rw [eR]⟩
    exact k3.tr kk
theorem s_b143R {Q : hG → Prop} {r0 : Nat → Option Nat → hG → Prop} {x p sb p0 : Nat} (h : pTM o G u t s L k v sub root) (hu : u ≠ (0, 0)) (hx : x ∈ L) (hp : hR G x 4 = some p) (hl : hR G p 3 = some x) (hs : hR G p 2 = some sb) (h0 : p0 ∈ sub x)
    (hQ : ∀ G' sub' root' r, pTM o G' u t s L k v sub' root' → gFr (gOnly u) o G o G' → sT G G' t → kp G G' p0 → root' = some r → r ∈ L → r0 t (some r) G') : wJ1_fixAfterDeletion_b302 Q r0 t (some x) (some sb) G := by
  have hpL := (h.ti.pa hx hp).1
  have hsL := (h.ti.lc hpL hs).1
  have g1 := (h.ti.dis (x := p0) hpL hs hl).2 h0
  have p0L := h.ti.sL hx h0
  have p0t : p0 ≠ t := fun z => h.nt (by rw [← z]; exact p0L)
  unfold wJ1_fixAfterDeletion_b302 wJ1_fixAfterDeletion_b342
  refine s_pO (h.nc hx) hp (s_cO (h.nc hpL) (h.col5 hpL) (s_sC (h.nc hsL) (h.col5 hpL) (s_pO (h.nc hx) hp (s_sC (h.nc hpL) (Or.inr rfl) (s_lO (h.nc hsL) rfl (s_sCO (fun n z => h.nc (h.ti.lc hsL z).1) (Or.inr rfl) ?_))))))
  have h1 := h.col hu hsL (h.col5 hpL)
  have h2 := h1.col hu hpL (c := 1) (Or.inr rfl)
  have tn : ∀ n, n ∈ L → t ≠ n := fun n hn z => h.nt (by rw [z]; exact hn)
  have f2 : gFr (gOnly u) o G o (hsI (hsI G sb 5 (hI G p 5)) p 5 1) := (gFr.rf.sI (Or.inr (h.no hsL))).sI (Or.inr (h.no hpL))
  have t2 : sT G (hsI (hsI G sb 5 (hI G p 5)) p 5 1) t := sT.tr (colT (tn sb hsL)) (colT (tn p hpL))
  obtain ⟨h3, f3, t3⟩ := colO_all (x := hR G sb 2) (c := 1) h2 hu (fun n z => (h.ti.lc hsL z).1) (Or.inr rfl)
  obtain ⟨G3, hG3⟩ : ∃ G3, G3 = colO (hsI (hsI G sb 5 (hI G p 5)) p 5 1) (hR G sb 2) 1 := ⟨_, rfl⟩
  have eR : hR G3 = hR G := by rw [hG3, colO_R]; rfl
  rw [show hR (hsI (hsI G sb 5 (hI G p 5)) p 5 1) sb 2 = hR G sb 2 from rfl]
  rw [← hG3] at h3 f3 t3 ⊢
  refine s_pO (h3.nc hx) (by rw [eR]; exact hp) ⟨hclt h3.c, s_rotR h3 hpL (by rw [eR]; exact hs) fun G4 R => ⟨?_, hlet_i ?_⟩⟩
  all_goals obtain ⟨sub4, root4, h4, -, -⟩ := h3.rotR hu hpL (by rw [eR]; exact hs) R
  · exact hclt h4.c
  rw [h4.rt]
  cases e : root4 with
  | none =>
    have := h4.ti.ro
    rw [e] at this
    rw [← this] at hx
    cases hx
  | some r =>
    rw [e] at h4
    refine hQ G4 sub4 (some r) r h4 ((f2.tr f3).tr (R.fr h3 hpL (by rw [eR]; exact hs))) (sT.tr t2 (sT.tr t3 R.T)) ?_ rfl (h4.ti.rp rfl).1
    have kk : kp G3 G4 p0 := R.keep p0t g1.1 (fun z => g1.2.1 (by rw [z]; exact h.ti.self hsL)) (fun z => by
      rw [eR] at z
      exact h.ti.nin hpL z g1.2.2)
    have k3 : kp G G3 p0 := ⟨by rw [eR], by rw [eR]⟩
    exact k3.tr kk
theorem s_b106L {Q : hG → Prop} {r0 : Nat → Option Nat → hG → Prop} {x p sb p0 : Nat} (h : pTM o G u t s L k v sub root) (hu : u ≠ (0, 0)) (hx : x ∈ L) (hp : hR G x 4 = some p) (hl : hR G p 2 = some x) (hs : hR G p 3 = some sb) (h0 : p0 ∈ sub x) (hcc : colV G (hR G sb 3) = 1 → ∃ l, hR G sb 2 = some l)
    (hQ : ∀ G' sub' root' r, pTM o G' u t s L k v sub' root' → gFr (gOnly u) o G o G' → sT G G' t → kp G G' p0 → root' = some r → r ∈ L → r0 t (some r) G') : wJ1_fixAfterDeletion_b106 Q r0 t (some x) (some sb) G := by
  have hpL := (h.ti.pa hx hp).1
  have hsb := h.ti.rc hpL hs
  have hsL := hsb.1
  have g1 := (h.ti.dis (x := p0) hpL hl hs).1 h0
  have p0L := h.ti.sL hx h0
  have p0t : p0 ≠ t := fun z => h.nt (by rw [← z]; exact p0L)
  have tn : ∀ n, n ∈ L → t ≠ n := fun n hn z => h.nt (by rw [z]; exact hn)
  unfold wJ1_fixAfterDeletion_b106
  refine s_rO (h.nc hsL) rfl (s_cOO h (fun n z => (h.ti.rc hsL z).1) (br_c (fun c => ?_) (fun c => ?_)))
  · obtain ⟨l, hll⟩ := hcc c
    have hlL := (h.ti.lc hsL hll).1
    refine s_lO (h.nc hsL) hll (s_sC (h.nc hlL) (Or.inr rfl) (s_sC (h.nc hsL) (Or.inl rfl) ⟨hclt h.c, ?_⟩))
    have h2 := (h.col hu hlL (c := 1) (Or.inr rfl)).col hu hsL (c := 0) (Or.inl rfl)
    have f2 : gFr (gOnly u) o G o (hsI (hsI G l 5 1) sb 5 0) := (gFr.rf.sI (Or.inr (h.no hlL))).sI (Or.inr (h.no hsL))
    have t2 : sT G (hsI (hsI G l 5 1) sb 5 0) t := sT.tr (colT (tn l hlL)) (colT (tn sb hsL))
    refine s_rotR h2 hsL hll fun G3 R => ?_
    obtain ⟨sub3, root3, h3, s3, -⟩ := h2.rotR hu hsL hll R
    have f3 := R.fr h2 hsL hll
    have lsb := h.ti.llt hsL hll
    have lp := h.ti.rlt hpL hs
    have xsb : x ≠ sb := fun z => h.ti.lrn hpL hl (by rw [z]; exact hs)
    have xp : x ≠ p := h.ti.lne hpL hl
    have psb : p ≠ sb := fun z => by rw [z] at lp; omega
    have xl : x ≠ l := fun z => by
      have e1 := (h.ti.lc hsL hll).2
      rw [← z] at e1
      have e2 : hR G x 4 = some sb := e1
      rw [hp] at e2
      exact psb (Option.some.inj e2)
    have pl : p ≠ l := fun z => by rw [z] at lp; omega
    have x4 : hR G3 x 4 = some p := by
      rw [R.P, if_neg xsb, if_neg xl, if_neg (fun z => ?_)]
      · exact hp
      · have e1 : hR G x 4 = some l := (h.ti.rc hlL z).2
        rw [hp] at e1
        exact pl (Option.some.inj e1)
    have pl3 : hR G3 p 2 = some x := by
      rw [R.F2 p, if_neg psb, if_neg (fun z => z.2 hs)]
      exact hl
    have pr3 : hR G3 p 3 = some l := by
      rw [R.F3 p (fun z => h.nt (by rw [← z]; exact hpL)), if_neg pl, if_pos ⟨hsb.2, hs⟩]
    refine s_pO (h3.nc hx) x4 (s_rO (h3.nc hpL) pr3 (s_b143L (p0 := p0) h3 hu hx x4 pl3 pr3 ?_ fun G' sub' root' r a1 a2 a3 a4 a5 a6 => hQ G' sub' root' r a1 ((f2.tr f3).tr a2) (sT.tr (sT.tr t2 R.T) a3) (kp.tr ?_ a4) a5 a6))
    · rw [s3 x xsb xl]
      exact h0
    · have := R.keep p0t (fun z => g1.2.1 (by rw [z]; exact h.ti.self hsL)) (fun z => g1.2.1 (by rw [z, h.ti.lsub hsL hll]; exact List.mem_append_left _ (h.ti.self hlL))) (fun z => g1.1 (by
        have e1 : hR G sb 4 = some p0 := z
        rw [show hR G sb 4 = some p from hsb.2] at e1
        exact (Option.some.inj e1).symm))
      exact this
  · exact s_b143L h hu hx hp hl hs h0 hQ
theorem s_b106R {Q : hG → Prop} {r0 : Nat → Option Nat → hG → Prop} {x p sb p0 : Nat} (h : pTM o G u t s L k v sub root) (hu : u ≠ (0, 0)) (hx : x ∈ L) (hp : hR G x 4 = some p) (hl : hR G p 3 = some x) (hs : hR G p 2 = some sb) (h0 : p0 ∈ sub x) (hcc : colV G (hR G sb 2) = 1 → ∃ l, hR G sb 3 = some l)
    (hQ : ∀ G' sub' root' r, pTM o G' u t s L k v sub' root' → gFr (gOnly u) o G o G' → sT G G' t → kp G G' p0 → root' = some r → r ∈ L → r0 t (some r) G') : wJ1_fixAfterDeletion_b265 Q r0 t (some x) (some sb) G := by
  have hpL := (h.ti.pa hx hp).1
  have hsb := h.ti.lc hpL hs
  have hsL := hsb.1
  have g1 := (h.ti.dis (x := p0) hpL hs hl).2 h0
  have p0L := h.ti.sL hx h0
  have p0t : p0 ≠ t := fun z => h.nt (by rw [← z]; exact p0L)
  have tn : ∀ n, n ∈ L → t ≠ n := fun n hn z => h.nt (by rw [z]; exact hn)
  unfold wJ1_fixAfterDeletion_b265
  refine s_lO (h.nc hsL) rfl (s_cOO h (fun n z => (h.ti.lc hsL z).1) (br_c (fun c => ?_) (fun c => ?_)))
  · obtain ⟨l, hll⟩ := hcc c
    have hlL := (h.ti.rc hsL hll).1
    refine s_rO (h.nc hsL) hll (s_sC (h.nc hlL) (Or.inr rfl) (s_sC (h.nc hsL) (Or.inl rfl) ⟨hclt h.c, ?_⟩))
    have h2 := (h.col hu hlL (c := 1) (Or.inr rfl)).col hu hsL (c := 0) (Or.inl rfl)
    have f2 : gFr (gOnly u) o G o (hsI (hsI G l 5 1) sb 5 0) := (gFr.rf.sI (Or.inr (h.no hlL))).sI (Or.inr (h.no hsL))
    have t2 : sT G (hsI (hsI G l 5 1) sb 5 0) t := sT.tr (colT (tn l hlL)) (colT (tn sb hsL))
    refine s_rotL h2 hsL hll fun G3 R => ?_
    obtain ⟨sub3, root3, h3, s3, -⟩ := h2.rotL hu hsL hll R
    have f3 := R.fr h2 hsL hll
    have lsb := h.ti.rlt hsL hll
    have lp := h.ti.llt hpL hs
    have xsb : x ≠ sb := fun z => h.ti.lrn hpL hs (by rw [← z]; exact hl)
    have xp : x ≠ p := h.ti.rne hpL hl
    have psb : p ≠ sb := fun z => by rw [z] at lp; omega
    have xl : x ≠ l := fun z => by
      have e1 := (h.ti.rc hsL hll).2
      rw [← z] at e1
      have e2 : hR G x 4 = some sb := e1
      rw [hp] at e2
      exact psb (Option.some.inj e2)
    have pl : p ≠ l := fun z => by rw [z] at lp; omega
    have x4 : hR G3 x 4 = some p := by
      rw [R.P, if_neg xsb, if_neg xl, if_neg (fun z => ?_)]
      · exact hp
      · have e1 : hR G x 4 = some l := (h.ti.lc hlL z).2
        rw [hp] at e1
        exact pl (Option.some.inj e1)
    have pl3 : hR G3 p 3 = some x := by
      rw [R.F3 p (fun z => h.nt (by rw [← z]; exact hpL)), if_neg psb, if_neg (fun z => z.2 hs)]
      exact hl
    have pr3 : hR G3 p 2 = some l := by
      rw [R.F2 p, if_neg pl, if_pos ⟨hsb.2, hs⟩]
    refine s_pO (h3.nc hx) x4 (s_lO (h3.nc hpL) pr3 (s_b143R (p0 := p0) h3 hu hx x4 pl3 pr3 ?_ fun G' sub' root' r a1 a2 a3 a4 a5 a6 => hQ G' sub' root' r a1 ((f2.tr f3).tr a2) (sT.tr (sT.tr t2 R.T) a3) (kp.tr ?_ a4) a5 a6))
    · rw [s3 x xsb xl]
      exact h0
    · have := R.keep p0t (fun z => g1.2.1 (by rw [z]; exact h.ti.self hsL)) (fun z => g1.2.1 (by rw [z, h.ti.rsub hsL hll]; exact List.mem_append_right _ (List.mem_cons_of_mem _ (h.ti.self hlL)))) (fun z => g1.1 (by
        have e1 : hR G sb 4 = some p0 := z
        rw [show hR G sb 4 = some p from hsb.2] at e1
        exact (Option.some.inj e1).symm))
      exact this
  · exact s_b143R h hu hx hp hl hs h0 hQ
theorem s_b71L {Q : hG → Prop} {r0 : Nat → Option Nat → hG → Prop} {x p p0 : Nat} (h : pTM o G u t s L k v sub root) (hu : u ≠ (0, 0)) (hx : x ∈ L) (hp : hR G x 4 = some p) (hl : hR G p 2 = some x) (h0 : p0 ∈ sub x)
    (hQ : ∀ G' sub' root' r, pTM o G' u t s L k v sub' root' → gFr (gOnly u) o G o G' → sT G G' t → kp G G' p0 → root' = some r → r ∈ L → r0 t (some r) G')
    (hK : ∀ G', pTM o G' u t s L k v sub root → gFr (gOnly u) o G o G' → sT G G' t → kp G G' p0 → r0 t (some p) G') : wJ1_fixAfterDeletion_b71 Q r0 t (some x) (hR G p 3) G := by
  have hpL := (h.ti.pa hx hp).1
  unfold wJ1_fixAfterDeletion_b71 wJ1_fixAfterDeletion_b183
  cases hs : hR G p 3 with
  | none => exact s_lO0 (s_cO0 (br_t rfl (s_rO0 (s_cO0 (br_t rfl (s_sC0 (s_pO (h.nc hx) hp (hK G h gFr.rf rfl ⟨rfl, rfl⟩))))))))
  | some sb =>
    have hsL := (h.ti.rc hpL hs).1
    refine s_lO (h.nc hsL) rfl (s_cOO h (fun n z => (h.ti.lc hsL z).1) (br_c (fun c => ?_) (fun c => ?_)))
    · refine s_rO (h.nc hsL) rfl (s_cOO h (fun n z => (h.ti.rc hsL z).1) (br_c (fun c2 => ?_) (fun c2 => ?_)))
      · exact s_sC (h.nc hsL) (Or.inl rfl) (s_pO (h.nc hx) hp (hK _ (h.col hu hsL (Or.inl rfl)) (gFr.rf.sI (Or.inr (h.no hsL))) (colT (fun z => h.nt (by rw [z]; exact hsL))) ⟨rfl, rfl⟩))
      · exact s_b106L h hu hx hp hl hs h0 (fun z => absurd z c2) hQ
    · refine s_b106L h hu hx hp hl hs h0 (fun _ => ?_) hQ
      cases e : hR G sb 2 with
      | none =>
        rw [e] at c
        exact absurd rfl c
      | some l => exact ⟨l, rfl⟩
theorem s_b71R {Q : hG → Prop} {r0 : Nat → Option Nat → hG → Prop} {x p p0 : Nat} (h : pTM o G u t s L k v sub root) (hu : u ≠ (0, 0)) (hx : x ∈ L) (hp : hR G x 4 = some p) (hl : hR G p 3 = some x) (h0 : p0 ∈ sub x)
    (hQ : ∀ G' sub' root' r, pTM o G' u t s L k v sub' root' → gFr (gOnly u) o G o G' → sT G G' t → kp G G' p0 → root' = some r → r ∈ L → r0 t (some r) G')
    (hK : ∀ G', pTM o G' u t s L k v sub root → gFr (gOnly u) o G o G' → sT G G' t → kp G G' p0 → r0 t (some p) G') : wJ1_fixAfterDeletion_b230 Q r0 t (some x) (hR G p 2) G := by
  have hpL := (h.ti.pa hx hp).1
  unfold wJ1_fixAfterDeletion_b230 wJ1_fixAfterDeletion_b342
  cases hs : hR G p 2 with
  | none => exact s_rO0 (s_cO0 (br_t rfl (s_lO0 (s_cO0 (br_t rfl (s_sC0 (s_pO (h.nc hx) hp (hK G h gFr.rf rfl ⟨rfl, rfl⟩))))))))
  | some sb =>
    have hsL := (h.ti.lc hpL hs).1
    refine s_rO (h.nc hsL) rfl (s_cOO h (fun n z => (h.ti.rc hsL z).1) (br_c (fun c => ?_) (fun c => ?_)))
    · refine s_lO (h.nc hsL) rfl (s_cOO h (fun n z => (h.ti.lc hsL z).1) (br_c (fun c2 => ?_) (fun c2 => ?_)))
      · exact s_sC (h.nc hsL) (Or.inl rfl) (s_pO (h.nc hx) hp (hK _ (h.col hu hsL (Or.inl rfl)) (gFr.rf.sI (Or.inr (h.no hsL))) (colT (fun z => h.nt (by rw [z]; exact hsL))) ⟨rfl, rfl⟩))
      · exact s_b106R h hu hx hp hl hs h0 (fun z => absurd z c2) hQ
    · refine s_b106R h hu hx hp hl hs h0 (fun _ => ?_) hQ
      cases e : hR G sb 3 with
      | none =>
        rw [e] at c
        exact absurd rfl c
      | some l => exact ⟨l, rfl⟩
end PTM11
