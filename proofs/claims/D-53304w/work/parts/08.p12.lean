/-! ===== plain law 12: TreeMap: taking out ===== -/
set_option maxRecDepth 100000
section TI12
variable {lf rt pr lf' rt' pr' : Nat → Option Nat} {sub : Nat → List Nat} {L : List Nat} {root root' : Option Nat} {s : Nat} {cO : Option Nat}
def rmv (s : Nat) (l : List Nat) : List Nat := l.filter (fun x => x != s)
theorem rmv_app {s : Nat} {a b : List Nat} : rmv s (a ++ b) = rmv s a ++ rmv s b := List.filter_append ..
theorem rmv_n {s n : Nat} {b : List Nat} (h : n ≠ s) : rmv s (n :: b) = n :: rmv s b := by simp [rmv, h]
theorem rmv_s {s : Nat} {b : List Nat} : rmv s (s :: b) = rmv s b := by simp [rmv]
theorem rmv_mem {s n : Nat} {l : List Nat} : n ∈ rmv s l ↔ n ∈ l ∧ n ≠ s := by simp [rmv]
theorem rmv_id {s : Nat} : ∀ {l : List Nat}, s ∉ l → rmv s l = l := by
  intro l h
  exact List.filter_eq_self.mpr (fun a ha => by
    have : a ≠ s := fun z => h (by rw [← z]; exact ha)
    simp [this])
theorem TI.del (h : TI lf rt pr sub L root) (hs : s ∈ L) (hc : (lf s = cO ∧ rt s = none) ∨ (lf s = none ∧ rt s = cO))
    (e1 : ∀ b, b ∈ L → b ≠ s → lf' b = if pr s = some b ∧ lf b = some s then cO else lf b)
    (e2 : ∀ b, b ∈ L → b ≠ s → rt' b = if pr s = some b ∧ lf b ≠ some s then cO else rt b)
    (e3 : ∀ b, b ∈ L → b ≠ s → pr' b = if cO = some b then pr s else pr b)
    (e4 : root' = if pr s = none then cO else root) : TI lf' rt' pr' (fun n => rmv s (sub n)) (rmv s L) root' := by
  have hso : ∀ x : Option Nat, so (fun n => rmv s (sub n)) x = rmv s (so sub x) := fun x => by cases x <;> rfl
  have hcc : ∀ c, cO = some c → c ∈ L ∧ c ≠ s ∧ pr c = some s := fun c z => by
    rcases hc with w | w
    · rw [z] at w
      have := h.lc hs w.1
      exact ⟨this.1, h.lne hs w.1, this.2⟩
    · rw [z] at w
      have := h.rc hs w.2
      exact ⟨this.1, h.rne hs w.2, this.2⟩
  have hch : ∀ n, n ∈ L → pr n = some s → cO = some n := fun n hn z => by
    rcases (h.pa hn z).2 with w | w
    · rcases hc with v | v
      · rw [← v.1]
        exact w
      · rw [v.1] at w
        cases w
    · rcases hc with v | v
      · rw [v.2] at w
        cases w
      · rw [← v.2]
        exact w
  have hss : rmv s (sub s) = rmv s (so sub cO) := by
    rw [h.eq hs, rmv_app, rmv_s]
    rcases hc with w | w
    · rw [w.1, w.2]
      simp [so, rmv]
    · rw [w.1, w.2]
      simp [so, rmv]
  refine ⟨h.nd.filter _, ?_, fun r z => ?_, fun n hn => ?_, fun n hn => ?_, fun n c hn z => ?_, fun n c hn z => ?_, fun n q hn z => ?_, fun n hn z => ?_⟩
  · rw [hso, e4]
    by_cases c : pr s = none
    · rw [if_pos c, ← hss]
      have := h.ro
      rw [h.pn hs c] at this
      rw [← this]
      rfl
    · rw [if_neg c, h.ro]
  · rw [e4] at z
    by_cases c : pr s = none
    · rw [if_pos c] at z
      have g := hcc r z
      exact ⟨rmv_mem.mpr ⟨g.1, g.2.1⟩, by rw [e3 r g.1 g.2.1, if_pos z]; exact c⟩
    · rw [if_neg c] at z
      have g := h.rp z
      have rs : r ≠ s := fun w => c (by rw [← w]; exact g.2)
      refine ⟨rmv_mem.mpr ⟨g.1, rs⟩, ?_⟩
      rw [e3 r g.1 rs, if_neg (fun w => ?_)]
      · exact g.2
      · have := (hcc r w).2.2
        rw [g.2] at this
        cases this
  · obtain ⟨hnL, ns⟩ := rmv_mem.mp hn
    show rmv s (sub n) = _
    rw [hso, hso, h.eq hnL, rmv_app, rmv_n ns, e1 n hnL ns, e2 n hnL ns]
    by_cases c1 : pr s = some n ∧ lf n = some s
    · rw [if_pos c1, if_neg (fun w => w.2 c1.2), ← hss, c1.2]
      rfl
    · rw [if_neg c1]
      by_cases c2 : pr s = some n ∧ lf n ≠ some s
      · have c3 : rt n = some s := by
          rcases (h.pa hs c2.1).2 with w | w
          · exact absurd w c2.2
          · exact w
        rw [if_pos c2, ← hss, c3]
        rfl
      · rw [if_neg c2]
  · obtain ⟨hnL, ns⟩ := rmv_mem.mp hn
    obtain ⟨A, B, hL⟩ := h.inf hnL
    refine ⟨rmv s A, rmv s B, ?_⟩
    rw [hL, rmv_app, rmv_app]
  · obtain ⟨hnL, ns⟩ := rmv_mem.mp hn
    rw [e1 n hnL ns] at z
    by_cases c1 : pr s = some n ∧ lf n = some s
    · rw [if_pos c1] at z
      have g := hcc c z
      exact ⟨rmv_mem.mpr ⟨g.1, g.2.1⟩, by rw [e3 c g.1 g.2.1, if_pos z]; exact c1.1⟩
    · rw [if_neg c1] at z
      have g := h.lc hnL z
      have cs : c ≠ s := fun w => c1 (by rw [w] at g z; exact ⟨g.2, z⟩)
      refine ⟨rmv_mem.mpr ⟨g.1, cs⟩, ?_⟩
      rw [e3 c g.1 cs, if_neg (fun w => ?_)]
      · exact g.2
      · have := (hcc c w).2.2
        rw [g.2] at this
        exact ns (Option.some.inj this)
  · obtain ⟨hnL, ns⟩ := rmv_mem.mp hn
    rw [e2 n hnL ns] at z
    by_cases c1 : pr s = some n ∧ lf n ≠ some s
    · rw [if_pos c1] at z
      have g := hcc c z
      exact ⟨rmv_mem.mpr ⟨g.1, g.2.1⟩, by rw [e3 c g.1 g.2.1, if_pos z]; exact c1.1⟩
    · rw [if_neg c1] at z
      have g := h.rc hnL z
      have cs : c ≠ s := fun w => by
        rw [w] at g z
        exact c1 ⟨g.2, fun y => h.lrn hnL y z⟩
      refine ⟨rmv_mem.mpr ⟨g.1, cs⟩, ?_⟩
      rw [e3 c g.1 cs, if_neg (fun w => ?_)]
      · exact g.2
      · have := (hcc c w).2.2
        rw [g.2] at this
        exact ns (Option.some.inj this)
  · obtain ⟨hnL, ns⟩ := rmv_mem.mp hn
    rw [e3 n hnL ns] at z
    by_cases c : cO = some n
    · rw [if_pos c] at z
      have g := h.pa hs z
      have qs : q ≠ s := fun w => h.p1 hs (by rw [w] at z; exact z)
      refine ⟨rmv_mem.mpr ⟨g.1, qs⟩, ?_⟩
      by_cases c1 : lf q = some s
      · exact Or.inl (by rw [e1 q g.1 qs, if_pos ⟨z, c1⟩]; exact c)
      · exact Or.inr (by rw [e2 q g.1 qs, if_pos ⟨z, c1⟩]; exact c)
    · rw [if_neg c] at z
      have g := h.pa hnL z
      have qs : q ≠ s := fun w => c (hch n hnL (by rw [← w]; exact z))
      refine ⟨rmv_mem.mpr ⟨g.1, qs⟩, ?_⟩
      rcases g.2 with w | w
      · refine Or.inl ?_
        rw [e1 q g.1 qs, if_neg (fun y => ?_)]
        · exact w
        · rw [w] at y
          exact ns (Option.some.inj y.2)
      · refine Or.inr ?_
        rw [e2 q g.1 qs, if_neg (fun y => ?_)]
        · exact w
        · rcases (h.pa hs y.1).2 with v | v
          · exact y.2 v
          · rw [w] at v
            exact ns (Option.some.inj v)
  · obtain ⟨hnL, ns⟩ := rmv_mem.mp hn
    rw [e3 n hnL ns] at z
    rw [e4]
    by_cases c : cO = some n
    · rw [if_pos c] at z
      rw [if_pos z]
      exact c
    · rw [if_neg c] at z
      have g := h.pn hnL z
      rw [if_neg (fun w => ?_)]
      · exact g
      · have := h.pn hs w
        rw [g] at this
        exact ns (Option.some.inj this)
end TI12
section PTM12
variable {o o' : gO} {G G' : hG} {u : Nat × Nat} {t s s' : Nat} {L : List Nat} {k : Nat → Wd} {v : Nat → Option Nat} {sub sub' : Nat → List Nat} {root root' : Option Nat}
theorem pTM.subLe (h : pTM o G u t s L k v sub root) {x : Nat} (hx : x ∈ L) : (sub x).length ≤ L.length := by
  obtain ⟨A, B, hL⟩ := h.ti.inf hx
  have := congrArg List.length hL
  rw [List.length_append, List.length_append] at this
  omega
theorem s_fixD_l {Q : hG → Prop} {G0 : hG} {p0 : Nat} (hu : u ≠ (0, 0)) (hQ : ∀ G' sub' root', pTM o G' u t s L k v sub' root' → gFr (gOnly u) o G0 o G' → sT G0 G' t → kp G0 G' p0 → Q G') :
    ∀ (n : Nat) (G : hG) (sub : Nat → List Nat) (root : Option Nat) (x : Nat), pTM o G u t s L k v sub root → x ∈ L → (root ≠ some x → p0 ∈ sub x) → gFr (gOnly u) o G0 o G → sT G0 G t → kp G0 G p0 → L.length - (sub x).length < n → wJ1_fixAfterDeletion_l0 Q n t (some x) G := by
  intro n
  induction n with
  | zero =>
    intro G sub root x _ _ _ _ _ _ hn
    omega
  | succ n ih =>
    intro G sub root x h hx h00 f0 t0 k0 hn
    have hend : wJ1_fixAfterDeletion_b345 Q (some x) G := by
      unfold wJ1_fixAfterDeletion_b345
      exact s_sC (h.nc hx) (Or.inr rfl) (hQ _ _ _ (h.col hu hx (Or.inr rfl)) (f0.sI (Or.inr (h.no hx))) (sT.tr t0 (colT (fun z => h.nt (by rw [z]; exact hx)))) (kp.tr k0 ⟨rfl, rfl⟩))
    show wJ1_fixAfterDeletion_b0 Q (wJ1_fixAfterDeletion_l0 Q n) _ _ _
    unfold wJ1_fixAfterDeletion_b0
    refine ⟨hclt h.c, hlet_i ?_⟩
    rw [h.rt]
    refine br_c (fun _ => hend) (fun hr => ?_)
    refine s_cO (h.nc hx) (h.col5 hx) (br_c (fun hc => ?_) (fun _ => hend))
    have h0 := h00 (fun z => hr z.symm)
    cases hp : hR G x 4 with
    | none => exact absurd (h.ti.pn hx hp).symm hr
    | some p =>
      obtain ⟨hpL, hpx⟩ := h.ti.pa hx hp
      have lp := h.subLe hpL
      have ltx := h.ti.plt hx hp
      obtain ⟨m, rfl⟩ : ∃ m, n = m + 1 := ⟨n - 1, by omega⟩
      have p0L := h.ti.sL hx h0
      have p0t : p0 ≠ t := fun z => h.nt (by rw [← z]; exact p0L)
      have tn : ∀ n, n ∈ L → t ≠ n := fun n hn z => h.nt (by rw [z]; exact hn)
      -- the two ways on
      have onRoot : ∀ G1, gFr (gOnly u) o G0 o G1 → sT G0 G1 t → kp G0 G1 p0 → ∀ G' sub' root' r, pTM o G' u t s L k v sub' root' → gFr (gOnly u) o G1 o G' → sT G1 G' t → kp G1 G' p0 → root' = some r → r ∈ L → wJ1_fixAfterDeletion_l0 Q (m + 1) t (some r) G' := by
        intro G1 a1 a2 a3 G' sub' root' r b1 b2 b3 b4 b5 b6
        refine ih G' sub' root' r b1 b6 (fun z => absurd b5 z) (a1.tr b2) (sT.tr a2 b3) (a3.tr b4) ?_
        have := b1.ti.ro
        rw [b5] at this
        have h9 : sub' r = L := this
        rw [h9]
        omega
      have onP : ∀ G1 sub1 root1, pTM o G1 u t s L k v sub1 root1 → hR G1 x 4 = some p → sub1 x = sub x → gFr (gOnly u) o G0 o G1 → sT G0 G1 t → kp G0 G1 p0 → ∀ G', pTM o G' u t s L k v sub1 root1 → gFr (gOnly u) o G1 o G' → sT G1 G' t → kp G1 G' p0 → wJ1_fixAfterDeletion_l0 Q (m + 1) t (some p) G' := by
        intro G1 sub1 root1 a0 a4 a5 a1 a2 a3 G' b1 b2 b3 b4
        have l1 := a0.ti.plt hx a4
        rw [a5] at l1
        have l2 := a0.subLe hpL
        refine ih G' sub1 root1 p b1 hpL (fun _ => ?_) (a1.tr b2) (sT.tr a2 b3) (a3.tr b4) (by omega)
        rcases (a0.ti.pa hx a4).2 with w | w
        · rw [a0.ti.lsub hpL w, a5]
          exact List.mem_append_left _ h0
        · rw [a0.ti.rsub hpL w, a5]
          exact List.mem_append_right _ (List.mem_cons_of_mem _ h0)
      have hcO : ∀ (x : Option Nat), colV G x = 0 → ∃ y, x = some y := fun x e => by
        cases x with
        | none => exact absurd e (show ¬ (1 : Int32) = 0 by decide)
        | some y => exact ⟨y, rfl⟩
      refine s_pO (h.nc hx) hp (s_lO (h.nc hpL) rfl (br_c (fun c => ?_) (fun c => ?_)))
      · have hl : hR G p 2 = some x := c.symm
        refine s_pO (h.nc hx) hp (s_rO (h.nc hpL) rfl (s_cOO h (fun n z => (h.ti.rc hpL z).1) (br_c (fun c2 => ?_) (fun c2 => ?_))))
        · obtain ⟨sb, hsb⟩ := hcO _ c2
          have hsL := (h.ti.rc hpL hsb).1
          rw [hsb]
          refine s_sC (h.nc hsL) (Or.inr rfl) (s_pO (h.nc hx) hp (s_sC (h.nc hpL) (Or.inl rfl) (s_pO (h.nc hx) hp ⟨hclt h.c, ?_⟩)))
          have h2 := (h.col hu hsL (c := 1) (Or.inr rfl)).col hu hpL (c := 0) (Or.inl rfl)
          have f2 : gFr (gOnly u) o G0 o (hsI (hsI G sb 5 1) p 5 0) := (f0.sI (Or.inr (h.no hsL))).sI (Or.inr (h.no hpL))
          refine s_rotL h2 hpL hsb fun G3 R => ?_
          obtain ⟨sub3, root3, h3, s3, -⟩ := h2.rotL hu hpL hsb R
          have xp : x ≠ p := h.ti.lne hpL hl
          have xs : x ≠ sb := fun z => h.ti.lrn hpL hl (by rw [z]; exact hsb)
          have ps : p ≠ sb := fun z => h.ti.rne hpL hsb z.symm
          have x4 : hR G3 x 4 = some p := by
            rw [R.P, if_neg xp, if_neg xs, if_neg (fun z => ?_)]
            · exact hp
            · have e1 : hR G x 4 = some sb := (h.ti.lc hsL z).2
              rw [hp] at e1
              exact ps (Option.some.inj e1)
          have l3 : hR G3 p 2 = some x := by
            rw [R.F2 p, if_neg ps, if_neg (fun z => h.ti.p1 hpL z.1)]
            exact hl
          have g1 := (h.ti.dis (x := p0) hpL hl hsb).1 h0
          have kk : kp G0 G3 p0 := kp.tr k0 (R.keep p0t g1.1 (fun z => g1.2.1 (by rw [z]; exact h.ti.self hsL)) (fun z => h.ti.nin hpL z g1.2.2))
          have tt : sT G0 G3 t := sT.tr t0 (sT.tr (sT.tr (colT (tn sb hsL)) (colT (tn p hpL))) R.T)
          have ff := f2.tr (R.fr h2 hpL hsb)
          refine s_pO (h3.nc hx) x4 (s_rO (h3.nc hpL) rfl (s_b71L (p0 := p0) h3 hu hx x4 l3 (by rw [s3 x xp xs]; exact h0) (onRoot G3 ff tt kk) (onP G3 sub3 root3 h3 x4 (s3 x xp xs) ff tt kk)))
        · exact s_b71L (p0 := p0) h hu hx hp hl h0 (onRoot G f0 t0 k0) (onP G sub root h hp rfl f0 t0 k0)
      · have hl : hR G p 3 = some x := by
          rcases hpx with w | w
          · exact absurd w.symm c
          · exact w
        refine s_pO (h.nc hx) hp (s_lO (h.nc hpL) rfl (s_cOO h (fun n z => (h.ti.lc hpL z).1) (br_c (fun c2 => ?_) (fun c2 => ?_))))
        · obtain ⟨sb, hsb⟩ := hcO _ c2
          have hsL := (h.ti.lc hpL hsb).1
          rw [hsb]
          refine s_sC (h.nc hsL) (Or.inr rfl) (s_pO (h.nc hx) hp (s_sC (h.nc hpL) (Or.inl rfl) (s_pO (h.nc hx) hp ⟨hclt h.c, ?_⟩)))
          have h2 := (h.col hu hsL (c := 1) (Or.inr rfl)).col hu hpL (c := 0) (Or.inl rfl)
          have f2 : gFr (gOnly u) o G0 o (hsI (hsI G sb 5 1) p 5 0) := (f0.sI (Or.inr (h.no hsL))).sI (Or.inr (h.no hpL))
          refine s_rotR h2 hpL hsb fun G3 R => ?_
          obtain ⟨sub3, root3, h3, s3, -⟩ := h2.rotR hu hpL hsb R
          have xp : x ≠ p := h.ti.rne hpL hl
          have xs : x ≠ sb := fun z => h.ti.lrn hpL hsb (by rw [← z]; exact hl)
          have ps : p ≠ sb := fun z => h.ti.lne hpL hsb z.symm
          have x4 : hR G3 x 4 = some p := by
            rw [R.P, if_neg xp, if_neg xs, if_neg (fun z => ?_)]
            · exact hp
            · have e1 : hR G x 4 = some sb := (h.ti.rc hsL z).2
              rw [hp] at e1
              exact ps (Option.some.inj e1)
          have l3 : hR G3 p 3 = some x := by
            rw [R.F3 p (fun z => h.nt (by rw [← z]; exact hpL)), if_neg ps, if_neg (fun z => h.ti.p1 hpL z.1)]
            exact hl
          have g1 := (h.ti.dis (x := p0) hpL hsb hl).2 h0
          have kk : kp G0 G3 p0 := kp.tr k0 (R.keep p0t g1.1 (fun z => g1.2.1 (by rw [z]; exact h.ti.self hsL)) (fun z => h.ti.nin hpL z g1.2.2))
          have tt : sT G0 G3 t := sT.tr t0 (sT.tr (sT.tr (colT (tn sb hsL)) (colT (tn p hpL))) R.T)
          have ff := f2.tr (R.fr h2 hpL hsb)
          refine s_pO (h3.nc hx) x4 (s_lO (h3.nc hpL) rfl (s_b71R (p0 := p0) h3 hu hx x4 l3 (by rw [s3 x xp xs]; exact h0) (onRoot G3 ff tt kk) (onP G3 sub3 root3 h3 x4 (s3 x xp xs) ff tt kk)))
        · exact s_b71R (p0 := p0) h hu hx hp hl h0 (onRoot G f0 t0 k0) (onP G sub root h hp rfl f0 t0 k0)
theorem s_fixD {Q : hG → Prop} {x : Nat} (h : pTM o G u t s L k v sub root) (hu : u ≠ (0, 0)) (hx : x ∈ L) (hQ : ∀ G' sub' root', pTM o G' u t s L k v sub' root' → gFr (gOnly u) o G o G' → sT G G' t → kp G G' x → Q G') : wJ1_fixAfterDeletion Q t (some x) G := by
  unfold wJ1_fixAfterDeletion
  exact ⟨L.length + 1, s_fixD_l hu hQ _ G sub root x h hx (fun _ => h.ti.self hx) gFr.rf rfl ⟨rfl, rfl⟩ (by have := h.subLe hx; omega)⟩
end PTM12
