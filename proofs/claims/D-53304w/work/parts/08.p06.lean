/-! ===== plain law 6: TreeMap: look-ups, next ones, iterators ===== -/
set_option maxRecDepth 100000
theorem nd_mid : ∀ (A A' : List Nat) {x : Nat} {B B' : List Nat}, (A ++ x :: B).Nodup → A ++ x :: B = A' ++ x :: B' → A = A' ∧ B = B'
  | [], [], x, B, B', _, e => ⟨rfl, (List.cons.inj e).2⟩
  | [], a :: A', x, B, B', h, e => by
    have h1 := (List.cons.inj e).1
    have h2 := (List.cons.inj e).2
    have h3 := (List.nodup_cons.mp h).1
    rw [h2] at h3
    simp at h3
  | a :: A, [], x, B, B', h, e => by
    have h1 := (List.cons.inj e).1
    have h2 := (List.nodup_cons.mp h).1
    rw [h1] at h2
    simp at h2
  | a :: A, a' :: A', x, B, B', h, e => by
    have h1 := (List.cons.inj e).1
    have h2 := nd_mid A A' (List.nodup_cons.mp h).2 (List.cons.inj e).2
    rw [h1, h2.1, h2.2]
    exact ⟨rfl, rfl⟩
abbrev fl (G : hG) (j : Nat) : Nat → Option Nat := fun n => hR G n j
abbrev kLt (k : Nat → Wd) : Nat → Nat → Prop := fun a b => wlt (k a) (k b) = true
def pND (o : gO) (G : hG) (u : Nat × Nat) (L : List Nat) (k : Nat → Wd) (v : Nat → Option Nat) : Prop := ∀ n, n ∈ L → hC G n = some (10, true) ∧ o n = u ∧ (∃ a, hR G n 0 = some a ∧ pW o G a (k n)) ∧ hR G n 1 = v n ∧ (hI G n 5 = 0 ∨ hI G n 5 = 1)
def pVw (o : gO) (G : hG) (t : Nat) : Prop := (∀ q, hR G t 6 = some q → hC G q = some (16, true) ∧ o q = (0, 0) ∧ hR G q 0 = some t) ∧ (∀ q, hR G t 7 = some q → hC G q = some (14, true) ∧ o q = (0, 0) ∧ hR G q 0 = some t) ∧ (∀ q, hR G t 1 = some q → hC G q = some (15, true) ∧ o q = (0, 0) ∧ hR G q 0 = some t)
def pTM (o : gO) (G : hG) (u : Nat × Nat) (t s : Nat) (L : List Nat) (k : Nat → Wd) (v : Nat → Option Nat) (sub : Nat → List Nat) (root : Option Nat) : Prop :=
  hC G t = some (9, true) ∧ o t = u ∧ hI G t 4 = nI s ∧ hR G t 2 = none ∧ hR G t 3 = root ∧ t ∉ L ∧ L.length ≤ 1000 ∧ pND o G u L k v ∧ TI (fl G 2) (fl G 3) (fl G 4) sub L root ∧ pVw o G t
section PTM
variable {o o' : gO} {G G' : hG} {u : Nat × Nat} {t s : Nat} {L : List Nat} {k : Nat → Wd} {v : Nat → Option Nat} {sub : Nat → List Nat} {root : Option Nat}
theorem pTM.c (h : pTM o G u t s L k v sub root) : hC G t = some (9, true) := h.1
theorem pTM.ow (h : pTM o G u t s L k v sub root) : o t = u := h.2.1
theorem pTM.sz (h : pTM o G u t s L k v sub root) : hI G t 4 = nI s := h.2.2.1
theorem pTM.cmp (h : pTM o G u t s L k v sub root) : hR G t 2 = none := h.2.2.2.1
theorem pTM.rt (h : pTM o G u t s L k v sub root) : hR G t 3 = root := h.2.2.2.2.1
theorem pTM.nt (h : pTM o G u t s L k v sub root) : t ∉ L := h.2.2.2.2.2.1
theorem pTM.len (h : pTM o G u t s L k v sub root) : L.length ≤ 1000 := h.2.2.2.2.2.2.1
theorem pTM.nd (h : pTM o G u t s L k v sub root) : pND o G u L k v := h.2.2.2.2.2.2.2.1
theorem pTM.ti (h : pTM o G u t s L k v sub root) : TI (fl G 2) (fl G 3) (fl G 4) sub L root := h.2.2.2.2.2.2.2.2.1
theorem pTM.vw (h : pTM o G u t s L k v sub root) : pVw o G t := h.2.2.2.2.2.2.2.2.2
theorem pTM.nc (h : pTM o G u t s L k v sub root) {n : Nat} (e : n ∈ L) : hC G n = some (10, true) := (h.nd n e).1
theorem pTM.no (h : pTM o G u t s L k v sub root) {n : Nat} (e : n ∈ L) : o n = u := (h.nd n e).2.1
theorem TI.congr {lf rt pr lf' rt' pr' : Nat → Option Nat} (h : TI lf rt pr sub L root) (e1 : ∀ n, n ∈ L → lf' n = lf n) (e2 : ∀ n, n ∈ L → rt' n = rt n) (e3 : ∀ n, n ∈ L → pr' n = pr n) : TI lf' rt' pr' sub L root := by
  refine ⟨h.nd, h.ro, fun r e => ?_, fun n e => ?_, fun n e => h.inf e, fun n c e z => ?_, fun n c e z => ?_, fun n p e z => ?_, fun n e z => ?_⟩
  · have := h.rp e
    exact ⟨this.1, by rw [e3 _ this.1]; exact this.2⟩
  · rw [e1 _ e, e2 _ e]
    exact h.eq e
  · rw [e1 _ e] at z
    have := h.lc e z
    exact ⟨this.1, by rw [e3 _ this.1]; exact this.2⟩
  · rw [e2 _ e] at z
    have := h.rc e z
    exact ⟨this.1, by rw [e3 _ this.1]; exact this.2⟩
  · rw [e3 _ e] at z
    have := h.pa e z
    exact ⟨this.1, by rw [e1 _ this.1, e2 _ this.1]; exact this.2⟩
  · rw [e3 _ e] at z
    exact h.pn e z
theorem pND.fr {M : Nat × Nat → Prop} (h : pND o G u L k v) (hf : gFr M o G o' G') (hu : ¬ M u) (h0 : ¬ M (0, 0)) : pND o' G' u L k v := by
  intro n e
  obtain ⟨h1, h2, ⟨a, h3, h3'⟩, h4, h5⟩ := h n e
  have s := hf.S h1 h2 hu
  refine ⟨hf.C h1, (hf.O h1).trans h2, ⟨a, s.R h3, h3'.fr hf h0⟩, s.R h4, ?_⟩
  rw [s.2.1]
  exact h5
theorem pVw.fr {M : Nat × Nat → Prop} (h : pVw o G t) (hf : gFr M o G o' G') (hs : hSm G G' t) (h0 : ¬ M (0, 0)) : pVw o' G' t := by
  have key : ∀ (j ci : Nat), (∀ q, hR G t j = some q → hC G q = some (ci, true) ∧ o q = (0, 0) ∧ hR G q 0 = some t) → (∀ q, hR G' t j = some q → hC G' q = some (ci, true) ∧ o' q = (0, 0) ∧ hR G' q 0 = some t) := by
    intro j ci g q e
    rw [hs.2.2.2] at e
    obtain ⟨g1, g2, g3⟩ := g q e
    exact ⟨hf.C g1, (hf.O g1).trans g2, (hf.S g1 g2 h0).R g3⟩
  exact ⟨key 6 16 h.1, key 7 14 h.2.1, key 1 15 h.2.2⟩
theorem pTM.fr {M : Nat × Nat → Prop} (h : pTM o G u t s L k v sub root) (hf : gFr M o G o' G') (hu : ¬ M u) (h0 : ¬ M (0, 0)) : pTM o' G' u t s L k v sub root := by
  have s := hf.S h.c h.ow hu
  have sn : ∀ n, n ∈ L → hSm G G' n := fun n e => hf.S (h.nc e) (h.no e) hu
  exact ⟨hf.C h.c, (hf.O h.c).trans h.ow, s.I h.sz, s.R h.cmp, s.R h.rt, h.nt, h.len, h.nd.fr hf hu h0, h.ti.congr (fun n e => congrFun (sn n e).2.2.2 2) (fun n e => congrFun (sn n e).2.2.2 3) (fun n e => congrFun (sn n e).2.2.2 4), h.vw.fr hf s h0⟩
theorem pw_mid {A B : List Nat} {n : Nat} {R : Nat → Nat → Prop} (h : (A ++ n :: B).Pairwise R) : (∀ x, x ∈ A → R x n) ∧ (∀ y, y ∈ B → R n y) := by
  obtain ⟨h1, h2, h3⟩ := List.pairwise_append.mp h
  exact ⟨fun x hx => h3 x hx n List.mem_cons_self, fun y hy => (List.pairwise_cons.mp h2).1 y hy⟩
theorem TI.pws {R : Nat → Nat → Prop} {lf rt pr : Nat → Option Nat} (h : TI lf rt pr sub L root) (hp : L.Pairwise R) {n : Nat} (e : n ∈ L) : (sub n).Pairwise R := by
  obtain ⟨A, B, hL⟩ := h.inf e
  rw [hL] at hp
  exact (List.pairwise_append.mp (List.pairwise_append.mp hp).1).2.1
/-! look-ups -/
theorem s_getEntry_l {Q : hG → Option Nat → Prop} {a : Nat} {key : Wd} (h : pTM o G u t s L k v sub root) (hpw : L.Pairwise (kLt k)) (hk : pW o G a key) (hQ1 : ∀ n, n ∈ L → k n = key → Q G (some n)) (hQ0 : (∀ n, n ∈ L → k n ≠ key) → Q G none) :
    ∀ (d : Nat) (p : Option Nat), (so sub p).length ≤ d → (∀ m, p = some m → m ∈ L) → (∀ n, n ∈ L → k n = key → n ∈ so sub p) → ∃ n, wJ1_getEntry_l28 Q n (some a) p G := by
  intro d
  induction d with
  | zero =>
    intro p hd hp hn
    refine ⟨1, ?_⟩
    show wJ1_getEntry_b28 Q _ _ _ _
    unfold wJ1_getEntry_b28
    cases p with
    | none => exact cm_none (hQ0 fun n hn1 hn2 => by have := hn n hn1 hn2; cases this)
    | some m =>
      have h1 := h.ti.self (hp m rfl)
      have h2 : sub m = [] := List.eq_nil_of_length_eq_zero (by have h3 : (sub m).length ≤ 0 := hd; omega)
      rw [h2] at h1
      cases h1
  | succ d ih =>
    intro p hd hp hn
    cases p with
    | none =>
      refine ⟨1, ?_⟩
      show wJ1_getEntry_b28 Q _ _ _ _
      unfold wJ1_getEntry_b28
      exact cm_none (hQ0 fun n hn1 hn2 => by have := hn n hn1 hn2; cases this)
    | some m =>
      have hm := hp m rfl
      obtain ⟨g1, g2, ⟨b, g3, g4⟩, -⟩ := h.nd m hm
      have hsub := h.ti.eq hm
      have hpw2 := h.ti.pws hpw hm
      rw [hsub] at hpw2
      have hmid := pw_mid hpw2
      have hlen : (sub m).length ≤ d + 1 := hd
      have hlen2 : (sub m).length = (so sub (hR G m 2)).length + ((so sub (hR G m 3)).length + 1) := by rw [hsub, List.length_append, List.length_cons]
      -- to the right
      have goR : wlt (k m) key = true → ∃ n, wJ1_getEntry_l28 Q n (some a) (hR G m 3) G := fun hw => by
        refine ih (hR G m 3) (by omega) (fun c hc => (h.ti.rc hm hc).1) (fun n hn1 hn2 => ?_)
        have h1 : n ∈ sub m := hn n hn1 hn2
        rw [hsub] at h1
        rcases List.mem_append.mp h1 with h1 | h1
        · have h2 := hmid.1 n h1
          have h3 : wlt (k n) (k m) = true := h2
          rw [hn2, wlt_asy hw] at h3
          cases h3
        · rcases List.mem_cons.mp h1 with h1 | h1
          · rw [h1] at hn2
            exact absurd hn2 (wlt_ne hw)
          · exact h1
      have goL : wlt key (k m) = true → ∃ n, wJ1_getEntry_l28 Q n (some a) (hR G m 2) G := fun hw => by
        refine ih (hR G m 2) (by omega) (fun c hc => (h.ti.lc hm hc).1) (fun n hn1 hn2 => ?_)
        have h1 : n ∈ sub m := hn n hn1 hn2
        rw [hsub] at h1
        rcases List.mem_append.mp h1 with h1 | h1
        · exact h1
        · rcases List.mem_cons.mp h1 with h1 | h1
          · rw [h1] at hn2
            exact absurd hn2.symm (wlt_ne hw)
          · have h3 : wlt (k m) (k n) = true := hmid.2 n h1
            rw [hn2, wlt_asy hw] at h3
            cases h3
      -- which way is known by the order of the words
      have step : ∀ n, (∀ z, cmpR z key (k m) → (0 ≤ z → (z ≤ 0 → Q G (some m)) ∧ (¬ z ≤ 0 → wJ1_getEntry_l28 Q n (some a) (hR G m 3) G)) ∧ (¬ 0 ≤ z → wJ1_getEntry_l28 Q n (some a) (hR G m 2) G)) → ∃ n, wJ1_getEntry_l28 Q n (some a) (some m) G := by
        intro n hz
        refine ⟨n + 1, ?_⟩
        show wJ1_getEntry_b28 Q (wJ1_getEntry_l28 Q n) _ _ _
        unfold wJ1_getEntry_b28
        refine cm_some ⟨hclt g1, hlet_i ⟨a, rfl, hclt hk.1, ?_⟩⟩
        rw [g3]
        refine s_compareTo hk g4 fun z hc => ⟨fun c => ⟨fun c2 => ((hz z hc).1 c).1 c2, fun c2 => ⟨hclt g1, hlet_i ?_⟩⟩, fun c => ⟨hclt g1, hlet_i ?_⟩⟩
        · exact ((hz z hc).1 c).2 c2
        · exact (hz z hc).2 c
      by_cases e : key = k m
      · refine step 0 fun z hc => ?_
        have hz := hc.1.mpr e
        rw [hz]
        exact ⟨fun _ => ⟨fun _ => hQ1 m hm e.symm, fun c => absurd (by decide) c⟩, fun c => absurd (by decide) c⟩
      · cases hw : wlt key (k m) with
        | true =>
          obtain ⟨n, hn9⟩ := goL hw
          refine step n fun z hc => ?_
          have hz := hc.2.mpr hw
          exact ⟨fun c => absurd hz (Int32.not_lt.mpr c), fun _ => hn9⟩
        | false =>
          have hw2 : wlt (k m) key = true := by
            cases hw3 : wlt (k m) key with
            | true => rfl
            | false => exact absurd (wlt_tri _ _ hw hw3) e
          obtain ⟨n, hn9⟩ := goR hw2
          refine step n fun z hc => ?_
          have hz := hc.gt.mpr hw2
          refine ⟨fun _ => ⟨fun c => absurd hz (Int32.not_lt.mpr c), fun _ => hn9⟩, fun c => ?_⟩
          exact absurd (Int32.le_of_lt hz) c
theorem s_getEntry {Q : hG → Option Nat → Prop} {a : Nat} {key : Wd} (h : pTM o G u t s L k v sub root) (hpw : L.Pairwise (kLt k)) (hk : pW o G a key) (hQ1 : ∀ n, n ∈ L → k n = key → Q G (some n)) (hQ0 : (∀ n, n ∈ L → k n ≠ key) → Q G none) : wJ1_getEntry Q t (some a) G := by
  unfold wJ1_getEntry
  refine ⟨hclt h.c, hlet_i ?_⟩
  rw [h.cmp]
  refine cm_none ?_
  unfold wJ11_requireNonNull
  refine cm_some ⟨fun y e => by cases e; exact hclt hk.1, hclt h.c, hlet_i ?_⟩
  rw [h.rt]
  exact s_getEntry_l h hpw hk hQ1 hQ0 _ root (Nat.le_refl _) (fun m e => (h.ti.rp e).1) (fun n hn _ => by rw [h.ti.ro]; exact hn)
theorem s_containsKey {Q : hG → Int32 → Prop} {a : Nat} {key : Wd} (h : pTM o G u t s L k v sub root) (hpw : L.Pairwise (kLt k)) (hk : pW o G a key) (hQ : Q G (if key ∈ L.map k then 1 else 0)) : wJ1_containsKey Q t (some a) G := by
  unfold wJ1_containsKey
  refine ⟨hclt h.c, s_getEntry h hpw hk (fun n hn e => cm_some ⟨hft1, ?_⟩) (fun hn => cm_none ⟨hft0, ?_⟩)⟩
  · rw [if_pos (List.mem_map.mpr ⟨n, hn, e⟩)] at hQ
    exact hQ
  · rw [if_neg (fun z => by obtain ⟨n, h1, h2⟩ := List.mem_map.mp z; exact hn n h1 h2)] at hQ
    exact hQ
theorem s_tmget {Q : hG → Option Nat → Prop} {a : Nat} {key : Wd} (h : pTM o G u t s L k v sub root) (hpw : L.Pairwise (kLt k)) (hk : pW o G a key) (hQ1 : ∀ n, n ∈ L → k n = key → Q G (v n)) (hQ0 : (∀ n, n ∈ L → k n ≠ key) → Q G none) : wJ1_get Q t (some a) G := by
  unfold wJ1_get
  refine ⟨hclt h.c, s_getEntry h hpw hk (fun n hn e => cm_some ⟨hclt (h.nc hn), hlet_i ?_⟩) (fun hn => cm_none (hQ0 hn))⟩
  rw [(h.nd n hn).2.2.2.1]
  exact hQ1 n hn e
theorem s_tmsize {Q : hG → Int32 → Prop} (h : pTM o G u t s L k v sub root) (hQ : Q G (nI s)) : wJ1_size Q t G := by
  unfold wJ1_size
  refine ⟨hclt h.c, ?_⟩
  rw [h.sz]
  exact hQ
/-! the first one, the next one -/
theorem so_ne {lf rt pr : Nat → Option Nat} (h : TI lf rt pr sub L root) {n : Nat} (e : n ∈ L) : sub n ≠ [] := fun z => by
  have := h.self e
  rw [z] at this
  cases this
theorem s_first_l {Q : hG → Option Nat → Prop} (h : pTM o G u t s L k v sub root) : ∀ (d m : Nat), (sub m).length ≤ d → m ∈ L → Q G (sub m).head? → ∃ n, wJ1_getFirstEntry_l9 Q n (some m) G := by
  intro d
  induction d with
  | zero =>
    intro m hd hm _
    exact absurd (List.eq_nil_of_length_eq_zero (by omega)) (so_ne h.ti hm)
  | succ d ih =>
    intro m hd hm hQ
    have hs := h.ti.eq hm
    cases e : hR G m 2 with
    | none =>
      refine ⟨1, ?_⟩
      show wJ1_getFirstEntry_b9 Q _ _ _
      unfold wJ1_getFirstEntry_b9
      refine ⟨m, rfl, hclt (h.nc hm), hlet_i ?_⟩
      rw [e]
      refine cm_none ?_
      have hs2 : sub m = [] ++ m :: so sub (hR G m 3) := by rw [hs]; show so sub (hR G m 2) ++ _ = _; rw [e]; rfl
      rw [hs2] at hQ
      exact hQ
    | some c =>
      have hc := h.ti.lc hm e
      have hl := h.ti.llt hm e
      have hs2 : sub m = sub c ++ m :: so sub (hR G m 3) := h.ti.lsub hm e
      have hne := so_ne h.ti hc.1
      obtain ⟨n, hn⟩ := ih c (by omega) hc.1 (by
        rw [hs2] at hQ
        cases e9 : sub c with
        | nil => exact absurd e9 hne
        | cons x xs =>
          rw [e9] at hQ
          exact hQ)
      refine ⟨n + 1, ?_⟩
      show wJ1_getFirstEntry_b9 Q (wJ1_getFirstEntry_l9 Q n) _ _
      unfold wJ1_getFirstEntry_b9
      refine ⟨m, rfl, hclt (h.nc hm), hlet_i ?_⟩
      rw [e]
      refine cm_some ⟨hclt (h.nc hm), hlet_i ?_⟩
      exact hn
theorem s_firstEntry {Q : hG → Option Nat → Prop} (h : pTM o G u t s L k v sub root) (hQ : Q G L.head?) : wJ1_getFirstEntry Q t G := by
  unfold wJ1_getFirstEntry
  refine ⟨hclt h.c, hlet_i ?_⟩
  rw [h.rt]
  have hro := h.ti.ro
  cases e : root with
  | none =>
    rw [e] at hro
    have : L = [] := hro.symm
    rw [this] at hQ
    exact cm_none hQ
  | some r =>
    rw [e] at hro
    have hro2 : sub r = L := hro
    refine cm_some (s_first_l h _ r (Nat.le_refl _) (h.ti.rp e).1 ?_)
    rw [hro2]
    exact hQ
theorem s_succ18 {Q : hG → Option Nat → Prop} (h : pTM o G u t s L k v sub root) : ∀ (d m : Nat), (sub m).length ≤ d → m ∈ L → Q G (sub m).head? → ∃ n, wJ1_successor_l18 Q n (some m) G := by
  intro d
  induction d with
  | zero =>
    intro m hd hm _
    exact absurd (List.eq_nil_of_length_eq_zero (by omega)) (so_ne h.ti hm)
  | succ d ih =>
    intro m hd hm hQ
    have hs := h.ti.eq hm
    cases e : hR G m 2 with
    | none =>
      refine ⟨1, ?_⟩
      show wJ1_successor_b18 Q _ _ _
      unfold wJ1_successor_b18
      refine ⟨m, rfl, hclt (h.nc hm), hlet_i ?_⟩
      rw [e]
      refine cm_none ?_
      have hs2 : sub m = [] ++ m :: so sub (hR G m 3) := by rw [hs]; show so sub (hR G m 2) ++ _ = _; rw [e]; rfl
      rw [hs2] at hQ
      exact hQ
    | some c =>
      have hc := h.ti.lc hm e
      have hl := h.ti.llt hm e
      have hs2 : sub m = sub c ++ m :: so sub (hR G m 3) := h.ti.lsub hm e
      have hne := so_ne h.ti hc.1
      obtain ⟨n, hn⟩ := ih c (by omega) hc.1 (by
        rw [hs2] at hQ
        cases e9 : sub c with
        | nil => exact absurd e9 hne
        | cons x xs =>
          rw [e9] at hQ
          exact hQ)
      refine ⟨n + 1, ?_⟩
      show wJ1_successor_b18 Q (wJ1_successor_l18 Q n) _ _
      unfold wJ1_successor_b18
      refine ⟨m, rfl, hclt (h.nc hm), hlet_i ?_⟩
      rw [e]
      refine cm_some ⟨hclt (h.nc hm), hlet_i ?_⟩
      exact hn
theorem s_succ42 {Q : hG → Option Nat → Prop} (h : pTM o G u t s L k v sub root) {B : List Nat} (hQ : Q G B.head?) : ∀ (d : Nat) (p : Option Nat) (c : Nat), L.length - (sub c).length < d → c ∈ L → hR G c 4 = p → (∃ A, L = A ++ sub c ++ B) → ∃ n, wJ1_successor_l42 Q n p c G := by
  intro d
  induction d with
  | zero =>
    intro p c hd _ _ _
    omega
  | succ d ih =>
    intro p c hd hc hp hL
    obtain ⟨A, hA⟩ := hL
    cases p with
    | none =>
      refine ⟨1, ?_⟩
      show wJ1_successor_b42 Q _ _ _ _
      unfold wJ1_successor_b42
      refine cm_none ?_
      have hr := h.ti.pn hc hp
      have hro := h.ti.ro
      rw [hr] at hro
      have hro2 : sub c = L := hro
      have hB : B = [] := by
        have := congrArg List.length hA
        rw [List.length_append, List.length_append, hro2] at this
        exact List.eq_nil_of_length_eq_zero (by omega)
      rw [hB] at hQ
      exact hQ
    | some q =>
      obtain ⟨hq, hcd⟩ := h.ti.pa hc hp
      have hlt := h.ti.plt hc hp
      obtain ⟨A2, B2, hL2⟩ := h.ti.inf hq
      have hndL := h.ti.nd
      -- the place of c's part
      obtain ⟨x, X, hx⟩ : ∃ x X, sub c = x :: X := by
        cases e : sub c with
        | nil => exact absurd e (so_ne h.ti hc)
        | cons x X => exact ⟨x, X, rfl⟩
      by_cases c1 : hR G q 3 = some c
      · have hs : sub q = so sub (hR G q 2) ++ q :: sub c := h.ti.rsub hq c1
        have hB : B = B2 := by
          rw [hA, hx] at hndL
          have e1 : A ++ x :: (X ++ B) = (A2 ++ (so sub (hR G q 2) ++ [q])) ++ x :: (X ++ B2) := by
            have := hA.symm.trans hL2
            rw [hs, hx] at this
            simpa using this
          have := nd_mid A (A2 ++ (so sub (hR G q 2) ++ [q])) (by simpa using hndL) e1
          exact List.append_cancel_left this.2
        obtain ⟨n, hn⟩ := ih (hR G q 4) q (by
          have := congrArg List.length hL2
          rw [List.length_append, List.length_append] at this
          omega) hq rfl ⟨A2, by rw [hB]; exact hL2⟩
        refine ⟨n + 1, ?_⟩
        show wJ1_successor_b42 Q (wJ1_successor_l42 Q n) _ _ _
        unfold wJ1_successor_b42
        refine cm_some ⟨hclt (h.nc hq), hlet_i (br_t c1.symm ⟨hclt (h.nc hq), hlet_i hn⟩)⟩
      · have c2 : hR G q 2 = some c := by
          rcases hcd with z | z
          · exact z
          · exact absurd z c1
        have hs : sub q = sub c ++ q :: so sub (hR G q 3) := h.ti.lsub hq c2
        have hB : B = q :: (so sub (hR G q 3) ++ B2) := by
          rw [hA, hx] at hndL
          have e1 : A ++ x :: (X ++ B) = A2 ++ x :: (X ++ (q :: (so sub (hR G q 3) ++ B2))) := by
            have := hA.symm.trans hL2
            rw [hs, hx] at this
            simpa using this
          have := nd_mid A A2 (by simpa using hndL) e1
          exact List.append_cancel_left this.2
        refine ⟨1, ?_⟩
        show wJ1_successor_b42 Q _ _ _ _
        unfold wJ1_successor_b42
        refine cm_some ⟨hclt (h.nc hq), hlet_i (br_f (fun z => c1 z.symm) ?_)⟩
        rw [hB] at hQ
        exact hQ
theorem s_succ {Q : hG → Option Nat → Prop} (h : pTM o G u t s L k v sub root) {A B : List Nat} {m : Nat} (hL : L = A ++ m :: B) (hQ : Q G B.head?) : wJ1_successor Q (some m) G := by
  have hm : m ∈ L := by rw [hL]; simp
  have hs := h.ti.eq hm
  obtain ⟨A2, B2, hL2⟩ := h.ti.inf hm
  have hndL := h.ti.nd
  unfold wJ1_successor
  refine cm_some ⟨hclt (h.nc hm), hlet_i ?_⟩
  have hB : B = so sub (hR G m 3) ++ B2 := by
    rw [hL] at hndL
    have e1 : A ++ m :: B = (A2 ++ so sub (hR G m 2)) ++ m :: (so sub (hR G m 3) ++ B2) := by
      have := hL.symm.trans hL2
      rw [hs] at this
      simpa using this
    exact (nd_mid A _ hndL e1).2
  cases e : hR G m 3 with
  | none =>
    refine cm_none ⟨hclt (h.nc hm), hlet_i ?_⟩
    rw [e] at hB
    have hB2 : B = B2 := hB
    exact s_succ42 h hQ (L.length + 1) _ m (by omega) hm rfl ⟨A2, by rw [hB2]; exact hL2⟩
  | some c =>
    have hc := h.ti.rc hm e
    refine cm_some ⟨hclt (h.nc hm), hlet_i ?_⟩
    rw [e] at hB
    have hB3 : B = sub c ++ B2 := hB
    refine s_succ18 h _ c (Nat.le_refl _) hc.1 ?_
    cases e9 : sub c with
    | nil => exact absurd e9 (so_ne h.ti hc.1)
    | cons x xs =>
      rw [hB3, e9] at hQ
      exact hQ
end PTM
