/-! ===== plain law 8: TreeMap: mending behind a putting in, put ===== -/
set_option maxRecDepth 100000
section PTM8
variable {o o' : gO} {G G' : hG} {u : Nat × Nat} {t s s' : Nat} {L : List Nat} {k : Nat → Wd} {v : Nat → Option Nat} {sub sub' : Nat → List Nat} {root root' : Option Nat}
theorem pTM.col5 (h : pTM o G u t s L k v sub root) {n : Nat} (e : n ∈ L) : hI G n 5 = 0 ∨ hI G n 5 = 1 := (h.nd n e).2.2.2.2
theorem colI {n b j : Nat} {c : Int32} (h : j ≠ 5) : hI (hsI G n 5 c) b j = hI G b j := by rw [hI_sI, if_neg (fun z => h z.2)]
theorem s_fixI_stop {Q : hG → Prop} {x : Nat} (h : pTM o G u t s L k v sub root) (hx : x ∈ L) (hs : root = some x ∨ ∃ p, hR G x 4 = some p ∧ p ∈ L ∧ hI G p 5 ≠ 0) (hQ : ∀ r, root = some r → Q (hsI G r 5 1)) (n : Nat) : wJ1_fixAfterInsertion_l5 Q (n + 1) t (some x) G := by
  show wJ1_fixAfterInsertion_b5 Q (wJ1_fixAfterInsertion_l5 Q n) _ _ _
  have hend : wJ1_fixAfterInsertion_b258 Q t G := by
    unfold wJ1_fixAfterInsertion_b258
    cases e : root with
    | none =>
      have h1 := h.ti.ro
      rw [e] at h1
      rw [← h1] at hx
      cases hx
    | some r => exact ⟨hclt h.c, hlet_i ⟨r, h.rt.trans e, h.nc (h.ti.rp e).1, hlet_i (hQ r e)⟩⟩
  unfold wJ1_fixAfterInsertion_b5
  refine cm_some ⟨hclt h.c, hlet_i ?_⟩
  rw [h.rt]
  refine br_c (fun _ => hend) (fun c => ⟨hclt (h.nc hx), hlet_i ?_⟩)
  rcases hs with hs | ⟨p, hp, hpL, hc⟩
  · exact absurd hs.symm c
  · exact ⟨p, hp, hclt (h.nc hpL), br_f hc hend⟩
/-- what stays in a mending: the map's numbers -/
def sT (G G' : hG) (t : Nat) : Prop := hI G' t = hI G t
theorem s_b118 {Q : hG → Prop} {x p m : Nat} (h : pTM o G u t s L k v sub root) (hu : u ≠ (0, 0)) (hx : x ∈ L) (hp : hR G x 4 = some p) (hxr : hR G p 3 ≠ some x) (hg : hR G p 4 = none ∨ ∃ g, hR G p 4 = some g ∧ hR G g 2 = some p) (hQ : ∀ G' sub' root', pTM o G' u t s L k v sub' root' → gFr (gOnly u) o G o G' → sT G G' t → Q G') : wJ1_fixAfterInsertion_b118 Q (wJ1_fixAfterInsertion_l5 Q (m + 1)) t (some x) G := by
  have hpL := (h.ti.pa hx hp).1
  have h1 := h.col hu hpL (c := 1) (Or.inr rfl)
  have tp : t ≠ p := fun z => h.nt (by rw [z]; exact hpL)
  unfold wJ1_fixAfterInsertion_b118 wJ1_fixAfterInsertion_b148
  refine s_pO (h.nc hx) hp (s_sC (h.nc hpL) (Or.inr rfl) (s_pO (h.nc hx) hp (s_pO (h.nc hpL) rfl ?_)))
  have hIt : ∀ (G2 : hG) (n : Nat) (c : Int32), t ≠ n → hI (hsI G2 n 5 c) t = hI G2 t := fun G2 n c e => funext fun j => by rw [hI_sI, if_neg (fun z => e z.1)]
  have f1 : gFr (gOnly u) o G o (hsI G p 5 1) := gFr.rf.sI (Or.inr (h.no hpL))
  rcases hg with hg | ⟨g, hg, hgp⟩
  · rw [show hR (hsI G p 5 1) p 4 = hR G p 4 from rfl, hg]
    refine s_sC0 (s_pO (h.nc hx) hp (s_pO (h.nc hpL) hg ⟨hclt h.c, cm_none ?_⟩))
    unfold wJ1_rotateRight_b95
    refine s_fixI_stop h1 hx (Or.inr ⟨p, hp, hpL, by rw [hI_sI, if_pos ⟨rfl, rfl⟩]; decide⟩) (fun r hr => ?_) m
    have hrL := (h1.ti.rp hr).1
    have tr : t ≠ r := fun z => h.nt (by rw [z]; exact hrL)
    exact hQ _ _ _ (h1.col hu hrL (Or.inr rfl)) (f1.sI (Or.inr (h.no hrL))) ((hIt _ _ _ tr).trans (hIt _ _ _ tp))
  · have hgL := (h.ti.pa hpL hg).1
    have tg : t ≠ g := fun z => h.nt (by rw [z]; exact hgL)
    rw [show hR (hsI G p 5 1) p 4 = hR G p 4 from rfl, hg]
    have h2 := h1.col hu hgL (c := 0) (Or.inl rfl)
    have f2 : gFr (gOnly u) o G o (hsI (hsI G p 5 1) g 5 0) := f1.sI (Or.inr (h.no hgL))
    refine s_sC (h.nc hgL) (Or.inl rfl) (s_pO (h.nc hx) hp (s_pO (h.nc hpL) hg ⟨hclt h.c, s_rotR h2 hgL hgp fun G3 R => ?_⟩))
    obtain ⟨sub3, root3, h3, -, -⟩ := h2.rotR hu hgL hgp R
    have f3 := f2.tr (R.fr h2 hgL hgp)
    obtain ⟨-, -, e3, -, -, -, -, r4, -, -⟩ := R
    have gp : g ≠ p := fun z => h.ti.p1 hpL (by rw [← z]; rw [z] at hg ⊢; exact hg)
    have xg : x ≠ g := fun z => h.ti.p2 hx hp (by rw [z]; exact hg)
    have xp : x ≠ p := fun z => h.ti.p1 hx (by rw [z]; rw [z] at hp; exact hp)
    refine s_fixI_stop h3 hx (Or.inr ⟨p, ?_, hpL, ?_⟩) (fun r hr => ?_) m
    · rw [r4, if_neg xg, if_neg xp, if_neg (by exact hxr)]
      exact hp
    · rw [e3, hI_sI, if_neg (fun z => gp z.1.symm), hI_sI, if_pos ⟨rfl, rfl⟩]
      decide
    · have hrL := (h3.ti.rp hr).1
      have tr : t ≠ r := fun z => h.nt (by rw [z]; exact hrL)
      refine hQ _ _ _ (h3.col hu hrL (Or.inr rfl)) (f3.sI (Or.inr (h.no hrL))) ((hIt _ _ _ tr).trans ?_)
      rw [e3]
      exact (hIt _ _ _ tg).trans (hIt _ _ _ tp)
theorem s_b225 {Q : hG → Prop} {x p m : Nat} (h : pTM o G u t s L k v sub root) (hu : u ≠ (0, 0)) (hx : x ∈ L) (hp : hR G x 4 = some p) (hxr : hR G p 2 ≠ some x) (hg : hR G p 4 = none ∨ ∃ g, hR G p 4 = some g ∧ hR G g 3 = some p) (hQ : ∀ G' sub' root', pTM o G' u t s L k v sub' root' → gFr (gOnly u) o G o G' → sT G G' t → Q G') : wJ1_fixAfterInsertion_b225 Q (wJ1_fixAfterInsertion_l5 Q (m + 1)) t (some x) G := by
  have hpL := (h.ti.pa hx hp).1
  have h1 := h.col hu hpL (c := 1) (Or.inr rfl)
  have tp : t ≠ p := fun z => h.nt (by rw [z]; exact hpL)
  unfold wJ1_fixAfterInsertion_b225 wJ1_fixAfterInsertion_b255
  refine s_pO (h.nc hx) hp (s_sC (h.nc hpL) (Or.inr rfl) (s_pO (h.nc hx) hp (s_pO (h.nc hpL) rfl ?_)))
  have hIt : ∀ (G2 : hG) (n : Nat) (c : Int32), t ≠ n → hI (hsI G2 n 5 c) t = hI G2 t := fun G2 n c e => funext fun j => by rw [hI_sI, if_neg (fun z => e z.1)]
  have f1 : gFr (gOnly u) o G o (hsI G p 5 1) := gFr.rf.sI (Or.inr (h.no hpL))
  rcases hg with hg | ⟨g, hg, hgp⟩
  · rw [show hR (hsI G p 5 1) p 4 = hR G p 4 from rfl, hg]
    refine s_sC0 (s_pO (h.nc hx) hp (s_pO (h.nc hpL) hg ⟨hclt h.c, cm_none ?_⟩))
    unfold wJ1_rotateLeft_b95
    refine s_fixI_stop h1 hx (Or.inr ⟨p, hp, hpL, by rw [hI_sI, if_pos ⟨rfl, rfl⟩]; decide⟩) (fun r hr => ?_) m
    have hrL := (h1.ti.rp hr).1
    have tr : t ≠ r := fun z => h.nt (by rw [z]; exact hrL)
    exact hQ _ _ _ (h1.col hu hrL (Or.inr rfl)) (f1.sI (Or.inr (h.no hrL))) ((hIt _ _ _ tr).trans (hIt _ _ _ tp))
  · have hgL := (h.ti.pa hpL hg).1
    have tg : t ≠ g := fun z => h.nt (by rw [z]; exact hgL)
    rw [show hR (hsI G p 5 1) p 4 = hR G p 4 from rfl, hg]
    have h2 := h1.col hu hgL (c := 0) (Or.inl rfl)
    have f2 : gFr (gOnly u) o G o (hsI (hsI G p 5 1) g 5 0) := f1.sI (Or.inr (h.no hgL))
    refine s_sC (h.nc hgL) (Or.inl rfl) (s_pO (h.nc hx) hp (s_pO (h.nc hpL) hg ⟨hclt h.c, s_rotL h2 hgL hgp fun G3 R => ?_⟩))
    obtain ⟨sub3, root3, h3, -, -⟩ := h2.rotL hu hgL hgp R
    have f3 := f2.tr (R.fr h2 hgL hgp)
    obtain ⟨-, -, e3, -, -, -, -, r4, -, -⟩ := R
    have gp : g ≠ p := fun z => h.ti.p1 hpL (by rw [← z]; rw [z] at hg ⊢; exact hg)
    have xg : x ≠ g := fun z => h.ti.p2 hx hp (by rw [z]; exact hg)
    have xp : x ≠ p := fun z => h.ti.p1 hx (by rw [z]; rw [z] at hp; exact hp)
    refine s_fixI_stop h3 hx (Or.inr ⟨p, ?_, hpL, ?_⟩) (fun r hr => ?_) m
    · rw [r4, if_neg xg, if_neg xp, if_neg (by exact hxr)]
      exact hp
    · rw [e3, hI_sI, if_neg (fun z => gp z.1.symm), hI_sI, if_pos ⟨rfl, rfl⟩]
      decide
    · have hrL := (h3.ti.rp hr).1
      have tr : t ≠ r := fun z => h.nt (by rw [z]; exact hrL)
      refine hQ _ _ _ (h3.col hu hrL (Or.inr rfl)) (f3.sI (Or.inr (h.no hrL))) ((hIt _ _ _ tr).trans ?_)
      rw [e3]
      exact (hIt _ _ _ tg).trans (hIt _ _ _ tp)
theorem s_fixI_l {Q : hG → Prop} {G0 : hG} (hu : u ≠ (0, 0)) (hQ : ∀ G' sub' root', pTM o G' u t s L k v sub' root' → gFr (gOnly u) o G0 o G' → sT G0 G' t → Q G') :
    ∀ (n : Nat) (G : hG) (sub : Nat → List Nat) (root : Option Nat) (x : Nat), pTM o G u t s L k v sub root → x ∈ L → gFr (gOnly u) o G0 o G → sT G0 G t → L.length - (sub x).length + 1 < n → wJ1_fixAfterInsertion_l5 Q n t (some x) G := by
  intro n
  induction n with
  | zero =>
    intro G sub root x _ _ _ _ hn
    omega
  | succ n ih =>
    intro G sub root x h hx f0 t0 hn
    have hIt : ∀ (G2 : hG) (n : Nat) (c : Int32), n ∈ L → sT G2 (hsI G2 n 5 c) t := fun G2 n c e => funext fun j => by rw [hI_sI, if_neg (fun z => h.nt (by rw [z.1]; exact e))]
    have stop : (root = some x ∨ ∃ p, hR G x 4 = some p ∧ p ∈ L ∧ hI G p 5 ≠ 0) → wJ1_fixAfterInsertion_l5 Q (n + 1) t (some x) G := fun hs => by
      refine s_fixI_stop h hx hs (fun r hr => ?_) n
      have hrL := (h.ti.rp hr).1
      exact hQ _ _ _ (h.col hu hrL (Or.inr rfl)) (f0.sI (Or.inr (h.no hrL))) ((hIt G r 1 hrL).trans t0)
    by_cases hr : root = some x
    · exact stop (Or.inl hr)
    cases hp : hR G x 4 with
    | none => exact absurd (h.ti.pn hx hp) hr
    | some p =>
      obtain ⟨hpL, hpx⟩ := h.ti.pa hx hp
      by_cases hc : hI G p 5 = 0
      · have xp : x ≠ p := fun z => h.ti.p1 hx (by rw [z]; rw [z] at hp; exact hp)
        have ltx := h.ti.plt hx hp
        have hQ2 : ∀ (G2 : hG), gFr (gOnly u) o G0 o G2 → sT G0 G2 t → ∀ G' sub' root', pTM o G' u t s L k v sub' root' → gFr (gOnly u) o G2 o G' → sT G2 G' t → Q G' := fun G2 a1 a2 G' sub' root' b1 b2 b3 => hQ G' sub' root' b1 (a1.tr b2) (b3.trans a2)
        have lx : (sub x).length ≤ L.length := by
          obtain ⟨A, B, hL⟩ := h.ti.inf hx
          have := congrArg List.length hL
          rw [List.length_append, List.length_append] at this
          omega
        obtain ⟨m, rfl⟩ : ∃ m, n = m + 1 := ⟨n - 1, by omega⟩
        show wJ1_fixAfterInsertion_b5 Q (wJ1_fixAfterInsertion_l5 Q (m + 1)) _ _ _
        unfold wJ1_fixAfterInsertion_b5
        refine cm_some ⟨hclt h.c, hlet_i ?_⟩
        rw [h.rt]
        refine br_f (fun z => hr z.symm) ⟨hclt (h.nc hx), hlet_i ⟨p, hp, hclt (h.nc hpL), br_t hc ?_⟩⟩
        refine s_pO (h.nc hx) hp (s_pO (h.nc hx) hp (s_pO (h.nc hpL) rfl ?_))
        -- the other side's ending
        have right : (hR G p 4 = none ∨ ∃ g, hR G p 4 = some g ∧ hR G g 3 = some p) → (wJ1_parentOf (fun G54 z55 => wJ1_leftOf (fun G59 z60 => ((some x) = z60 → (wJ1_parentOf (fun G65 z66 => hcl G65 t 9 ∧ (wJ1_rotateRight (fun G71 => wJ1_fixAfterInsertion_b225 Q (wJ1_fixAfterInsertion_l5 Q (m + 1)) t z66 G71) t z66 G65)) (some x) G59)) ∧ (¬ (some x) = z60 → (wJ1_fixAfterInsertion_b225 Q (wJ1_fixAfterInsertion_l5 Q (m + 1)) t (some x) G59))) z55 G54) (some x) G) := fun hg => by
          refine s_pO (h.nc hx) hp (s_lO (h.nc hpL) rfl (br_c (fun c => ?_) (fun c => ?_)))
          · have c := c.symm
            refine s_pO (h.nc hx) hp ⟨hclt h.c, s_rotR h hpL c fun G2 R => ?_⟩
            obtain ⟨sub2, root2, h2, -, -⟩ := h.rotR hu hpL c R
            have f2 := R.fr h hpL c
            obtain ⟨-, -, e3, -, -, r3, r2, r4, -, -⟩ := R
            have p2 : hR G2 p 4 = some x := by rw [r4, if_pos rfl]
            have x2 : hR G2 x 4 = hR G p 4 := by rw [r4, if_neg xp, if_pos rfl]
            refine s_b225 h2 hu hpL p2 (fun z => ?_) ?_ (hQ2 G2 (f0.tr f2) (by show hI G2 t = hI G0 t; rw [e3]; exact t0))
            · have : hR G2 x 3 = some p := by rw [r3 x (fun z => h.nt (by rw [← z]; exact hx)), if_pos rfl]
              exact h2.ti.lrn hx z this
            · rcases hg with hg | ⟨g, hg, hgp⟩
              · exact Or.inl (x2.trans hg)
              · refine Or.inr ⟨g, x2.trans hg, ?_⟩
                have gL := (h.ti.pa hpL hg).1
                rw [r3 g (fun z => h.nt (by rw [← z]; exact gL)), if_neg (fun z => h.ti.p2 hx hp (show hR G p 4 = some x by rw [hg, z])), if_pos ⟨hg, hgp⟩]
          · exact s_b225 h hu hx hp (fun z => c z.symm) hg (hQ2 G f0 t0)
        have left : (∃ g, hR G p 4 = some g ∧ hR G g 2 = some p) → (wJ1_parentOf (fun G136 z137 => wJ1_rightOf (fun G141 z142 => ((some x) = z142 → (wJ1_parentOf (fun G147 z148 => hcl G147 t 9 ∧ (wJ1_rotateLeft (fun G153 => wJ1_fixAfterInsertion_b118 Q (wJ1_fixAfterInsertion_l5 Q (m + 1)) t z148 G153) t z148 G147)) (some x) G141)) ∧ (¬ (some x) = z142 → (wJ1_fixAfterInsertion_b118 Q (wJ1_fixAfterInsertion_l5 Q (m + 1)) t (some x) G141))) z137 G136) (some x) G) := fun hg => by
          refine s_pO (h.nc hx) hp (s_rO (h.nc hpL) rfl (br_c (fun c => ?_) (fun c => ?_)))
          · have c := c.symm
            refine s_pO (h.nc hx) hp ⟨hclt h.c, s_rotL h hpL c fun G2 R => ?_⟩
            obtain ⟨sub2, root2, h2, -, -⟩ := h.rotL hu hpL c R
            have f2 := R.fr h hpL c
            obtain ⟨-, -, e3, -, -, r2, r3, r4, -, -⟩ := R
            have p2 : hR G2 p 4 = some x := by rw [r4, if_pos rfl]
            have x2 : hR G2 x 4 = hR G p 4 := by rw [r4, if_neg xp, if_pos rfl]
            refine s_b118 h2 hu hpL p2 (fun z => ?_) ?_ (hQ2 G2 (f0.tr f2) (by show hI G2 t = hI G0 t; rw [e3]; exact t0))
            · have : hR G2 x 2 = some p := by rw [r2, if_pos rfl]
              exact h2.ti.lrn hx this z
            · obtain ⟨g, hg, hgp⟩ := hg
              refine Or.inr ⟨g, x2.trans hg, ?_⟩
              rw [r2, if_neg (fun z => h.ti.p2 hx hp (show hR G p 4 = some x by rw [hg, z])), if_pos ⟨hg, hgp⟩]
          · exact s_b118 h hu hx hp (fun z => c z.symm) (Or.inr hg) (hQ2 G f0 t0)
        cases hg : hR G p 4 with
        | none =>
          refine s_lO0 (br_f (by simp) ?_)
          refine s_pO (h.nc hx) hp (s_pO (h.nc hpL) hg (s_lO0 (s_cO0 (br_f (by decide) ?_))))
          exact right (Or.inl hg)
        | some g =>
          have hgL := (h.ti.pa hpL hg).1
          have ltp := h.ti.plt hpL hg
          have lg : (sub g).length ≤ L.length := by
            obtain ⟨A, B, hL⟩ := h.ti.inf hgL
            have := congrArg List.length hL
            rw [List.length_append, List.length_append] at this
            omega
          have h1 := h.col hu hpL (c := 1) (Or.inr rfl)
          -- recoloured: on with g
          have recol : ∀ y, y ∈ L → wJ1_fixAfterInsertion_l5 Q (m + 1) t (some g) (hsI (hsI (hsI G p 5 1) y 5 1) g 5 0) := fun y hy => by
            have h3 := (h1.col hu hy (c := 1) (Or.inr rfl)).col hu hgL (c := 0) (Or.inl rfl)
            refine ih _ sub root g h3 hgL (((f0.sI (Or.inr (h.no hpL))).sI (Or.inr (h.no hy))).sI (Or.inr (h.no hgL))) ?_ (by omega)
            exact ((hIt _ g 0 hgL).trans ((hIt _ y 1 hy).trans (hIt _ p 1 hpL))).trans t0
          refine s_lO (h.nc hgL) rfl (br_c (fun c => ?_) (fun c => ?_))
          · have c := c.symm
            refine s_pO (h.nc hx) hp (s_pO (h.nc hpL) hg (s_rO (h.nc hgL) rfl ?_))
            cases hy : hR G g 3 with
            | none => exact s_cO0 (br_f (by decide) (left ⟨g, hg, c⟩))
            | some y =>
              have hyL := (h.ti.rc hgL hy).1
              refine s_cO (h.nc hyL) (h.col5 hyL) (br_c (fun c2 => ?_) (fun _ => left ⟨g, hg, c⟩))
              refine s_pO (h.nc hx) hp (s_sC (h.nc hpL) (Or.inr rfl) (s_sC (h.nc hyL) (Or.inr rfl) (s_pO (h.nc hx) hp (s_pO (h.nc hpL) hg (s_sC (h.nc hgL) (Or.inl rfl) (s_pO (h.nc hx) hp (s_pO (h.nc hpL) hg ?_)))))))
              unfold wJ1_fixAfterInsertion_b148
              exact recol y hyL
          · have c3 : hR G g 3 = some p := by
              rcases (h.ti.pa hpL hg).2 with z | z
              · exact absurd z.symm c
              · exact z
            refine s_pO (h.nc hx) hp (s_pO (h.nc hpL) hg (s_lO (h.nc hgL) rfl ?_))
            cases hy : hR G g 2 with
            | none => exact s_cO0 (br_f (by decide) (right (Or.inr ⟨g, hg, c3⟩)))
            | some y =>
              have hyL := (h.ti.lc hgL hy).1
              refine s_cO (h.nc hyL) (h.col5 hyL) (br_c (fun c2 => ?_) (fun _ => right (Or.inr ⟨g, hg, c3⟩)))
              refine s_pO (h.nc hx) hp (s_sC (h.nc hpL) (Or.inr rfl) (s_sC (h.nc hyL) (Or.inr rfl) (s_pO (h.nc hx) hp (s_pO (h.nc hpL) hg (s_sC (h.nc hgL) (Or.inl rfl) (s_pO (h.nc hx) hp (s_pO (h.nc hpL) hg ?_)))))))
              unfold wJ1_fixAfterInsertion_b255
              exact recol y hyL
      · exact stop (Or.inr ⟨p, hp, hpL, hc⟩)
theorem s_fixI {Q : hG → Prop} {x : Nat} (h : pTM o G u t s L k v sub root) (hu : u ≠ (0, 0)) (hx : x ∈ L) (hQ : ∀ G' sub' root', pTM o G' u t s L k v sub' root' → gFr (gOnly u) o G o G' → sT G G' t → Q G') : wJ1_fixAfterInsertion Q t (some x) G := by
  unfold wJ1_fixAfterInsertion
  refine ⟨x, rfl, h.nc hx, hlet_i ⟨L.length + 2, ?_⟩⟩
  have hI : sT G (hsI G x 5 0) t := funext fun j => by rw [hI_sI, if_neg (fun z => h.nt (by rw [z.1]; exact hx))]
  exact s_fixI_l hu hQ _ _ sub root x (h.col hu hx (Or.inl rfl)) hx (gFr.rf.sI (Or.inr (h.no hx))) hI (by omega)
end PTM8
