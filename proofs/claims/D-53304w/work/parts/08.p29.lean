/-! ===== plain law 29: suggestions ===== -/
set_option maxRecDepth 100000
/-- numbers of a book stay small; c bounds the times of strange words -/
def gB (c : Nat) (B : Bk) : Prop := (bW B).length ≤ 20 ∧ (∀ e, e ∈ bW B → 1 ≤ e.2 ∧ e.2 ≤ 999) ∧ (bN B).length ≤ 10 ∧ (∀ e, e ∈ bP B → 1 ≤ e.2.2 ∧ e.2.2 ≤ 99) ∧ (∀ e, e ∈ bS B → 1 ≤ e.2.2 ∧ e.2.2 ≤ c) ∧ (∀ e, e ∈ bL B → e.2.2 ≤ 1) ∧ (∃ n, n ≤ 12 ∧ bE B 0 = nI n) ∧ (∃ n, 1 ≤ n ∧ n ≤ 9 ∧ bE B 1 = nI n) ∧ (∃ n, 1 ≤ n ∧ n ≤ 5 ∧ bE B 2 = nI n) ∧ ∀ k, k < 26 → ∃ n, n ≤ 2 ∧ bK B k = nI n
/-- owners that a query may change -/
def qM (b : Nat) : Nat × Nat → Prop := fun v => v.1 = b ∨ (v.1 = 0 ∧ 8 ≤ v.2)
def tM : Nat × Nat → Prop := fun v => v.1 = 0 ∧ 8 ≤ v.2
theorem qM_0 {b : Nat} (h : b ≠ 0) : ¬ qM b (0, 0) := fun z => by
  rcases z with z | z
  · exact h z.symm
  · exact absurd z.2 (by decide)
theorem tM_0 : ¬ tM (0, 0) := fun z => absurd z.2 (by decide)
theorem tM_b {b i : Nat} (h : b ≠ 0) : ¬ tM (b, i) := fun z => h z.1
theorem gFr.q {b i : Nat} {o o' : gO} {G G' : hG} (h : gFr (gOnly (b, i)) o G o' G') : gFr (qM b) o G o' G' := h.mono fun _ z => Or.inl (congrArg Prod.fst z)
theorem gFr.t {b : Nat} {o o' : gO} {G G' : hG} (h : gFr tM o G o' G') : gFr (qM b) o G o' G' := h.mono fun _ z => Or.inr z
theorem gFr.t0 {i : Nat} {o o' : gO} {G G' : hG} (h : gFr (gOnly (0, i)) o G o' G') (hi : 8 ≤ i) : gFr tM o G o' G' := h.mono fun v z => by rw [show v = (0, i) from z]; exact ⟨rfl, hi⟩
section P29
variable {o : gO} {G : hG} {b a : Nat} {x : Nat → Nat} {B : Bk}
theorem pBr.ft {o' : gO} {G' : hG} (h : pBr o G b a x B) (hb : b ≠ 0) (hf : gFr tM o G o' G') : pBr o' G' b a x B := h.fr hf (fun _ => tM_b hb) tM_0
def bnd (B : Bk) (t w : Wd) : Bool := (plc (bB B) t w).isSome
theorem s_isBanned {Q : hG → Int32 → Prop} {t v : Nat} {l m : Wd} (h : pBr o G b a x B) (ht : pW o G t l) (hv : pW o G v m) (hQ : Q G (if bnd B l m then 1 else 0)) : wX2_isBanned Q a t v G := by
  obtain ⟨⟨h1, h2, h3⟩, -, -, -, p3, -⟩ := h
  have hl : (bB B).length ≤ 24 := by
    obtain ⟨_, _, h⟩ := p3
    have := h.2.2.2.2.2.2
    omega
  unfold wX2_isBanned
  refine ⟨hclt h1, hlet_i ⟨x 3, h3 3 (by decide), s_placeOf p3 ht hv ?_⟩⟩
  unfold wX2_isBanned_b18
  unfold bnd at hQ
  cases e : plc (bB B) l m with
  | none =>
    rw [e] at hQ
    exact br_t rfl ⟨hft0, hQ⟩
  | some k =>
    rw [e] at hQ
    obtain ⟨k1, -⟩ := plc_lt e
    exact br_f (fun z => by
      have := (nI_pos (n := k) (by omega))
      rw [show nI k = -1 from z] at this
      exact this (by decide)) ⟨hft1, hQ⟩
def keys (B : Bk) : List Wd := (bW B).map Prod.fst
def cnt (B : Bk) (w : Wd) : Nat := (lkA w (bW B)).getD 0
theorem lkA_mem {α : Type} {key : Wd} : ∀ {V : List (Wd × α)}, key ∈ V.map Prod.fst → ∃ n, lkA key V = some n ∧ (key, n) ∈ V
  | [], h => by cases h
  | (y, d) :: V, h => by
    by_cases c : key = y
    · exact ⟨d, if_pos c, by rw [c]; exact List.mem_cons_self ..⟩
    · rw [List.map_cons] at h
      rcases List.mem_cons.mp h with z | z
      · exact absurd z c
      · obtain ⟨n, h1, h2⟩ := lkA_mem z
        refine ⟨n, ?_, List.mem_cons_of_mem _ h2⟩
        show (if key = y then some d else lkA key V) = some n
        rw [if_neg c]
        exact h1
/-- words.get of a word of the book -/
theorem s_wget {Q : hG → Option Nat → Prop} {t : Nat} {l : Wd} (h : pBr o G b a x B) (ht : pW o G t l) (h0 : l ∉ keys B → Q G none) (h1 : ∀ y, l ∈ keys B → pIn o G y (cnt B l) → Q G (some y)) : wJ1_get Q (x 0) (some t) G := by
  obtain ⟨-, ⟨E, p1, p2⟩, -⟩ := h
  refine s_mget p1 ht ?_
  rcases vInt.lk (key := l) p2 with ⟨e1, e2⟩ | ⟨n, y, e1, e2, e3⟩
  · rw [e2]
    refine h0 fun z => ?_
    obtain ⟨n, hn, -⟩ := lkA_mem z
    rw [e1] at hn
    cases hn
  · rw [e2]
    refine h1 y ?_ ?_
    · apply Classical.byContradiction
      intro z
      rw [lkA_none (fun e he c => z (by rw [← c]; exact List.mem_map_of_mem he))] at e1
      cases e1
    · unfold cnt
      rw [e1]
      exact e3
theorem pMp.ow {u : Nat × Nat} {t : Nat} {E : List En} (h : pMp o G u t E) : o t = u := by
  obtain ⟨L, k, v, sub, root, h1, h2, h3⟩ := h
  exact h1.ow
/-- the words of the book are being gone through -/
def pBi (o : gO) (G : hG) (b a : Nat) (x : Nat → Nat) (B : Bk) (j : Nat) (K1 K2 : List Wd) (it : Nat) : Prop := pBr o G b a x B ∧ (∃ v, hR G (x 0) 7 = some v) ∧ ∃ E1 E2, pIM o G (b, 0) (x 0) E1 E2 it (0, j) 11 ∧ E1.map Prod.fst = K1 ∧ E2.map Prod.fst = K2 ∧ K1 ++ K2 = keys B
theorem pBi.fr {M : Nat × Nat → Prop} {o' : gO} {G' : hG} {j : Nat} {K1 K2 : List Wd} {it : Nat} (h : pBi o G b a x B j K1 K2 it) (hf : gFr M o G o' G') (hu : ∀ i, ¬ M (b, i)) (hw : ¬ M (0, j)) (h0 : ¬ M (0, 0)) : pBi o' G' b a x B j K1 K2 it := by
  obtain ⟨h1, ⟨v, hv⟩, E1, E2, h2, h3⟩ := h
  have hx := h1.2.1
  obtain ⟨E0, p1, -⟩ := hx
  exact ⟨h1.fr hf hu h0, ⟨v, (hf.S p1.c p1.ow (hu 0)).R hv⟩, E1, E2, h2.fr hf (hu 0) hw h0, h3⟩
theorem pBi.f0 {o' : gO} {G' : hG} {j : Nat} {K1 K2 : List Wd} {it : Nat} (h : pBi o G b a x B j K1 K2 it) (hf : gFr gNo o G o' G') : pBi o' G' b a x B j K1 K2 it := h.fr hf (fun _ z => z) (fun z => z) (fun z => z)
theorem pBi.pw {j : Nat} {K1 K2 : List Wd} {it : Nat} (h : pBi o G b a x B j K1 K2 it) : (K1 ++ K2).Pairwise (fun p q => wlt p q = true) := by
  obtain ⟨-, -, E1, E2, ⟨L1, L2, k, v, sub, root, h1, h2, h3, h4, -⟩, h5, h6, -⟩ := h
  rw [← h5, ← h6, ← List.map_append]
  exact List.pairwise_map.mpr h4
theorem s_navKS2 {Q : hG → Option Nat → Prop} {u : Nat × Nat} {t : Nat} {E : List En} (h : pMp o G u t E) (hu : u ≠ (0, 0)) (hQ : ∀ o' G' q, pMp o' G' u t E → pVc o' G' q t 14 → gFr (gOnly u) o G o' G' → hR G' t 7 = some q → ((∃ v, hR G t 7 = some v) → gFr gNo o G o' G') → Q G' (some q)) : wJ1_navigableKeySet Q t G := by
  unfold wJ1_navigableKeySet
  refine ⟨hclt h.c, hlet_i ?_⟩
  cases e : hR G t 7 with
  | none =>
    refine cm_none fun q hq => hlet_i ?_
    unfold wJ18_init wJ3_init_c14 wJ2_init_c14 wJ1_navigableKeySet_b26
    refine ⟨by rw [hC_nw, if_pos rfl], hlet_i ?_⟩
    have := s_mkView (Q := fun G' => hR G' t 7 = some q → Q G' (some q)) h hu hq (Or.inr (Or.inl ⟨rfl, rfl⟩)) (fun o' G' a1 a2 a3 a4 => hQ o' G' q a1 a2 a3 a4 (fun ⟨v, z⟩ => by rw [e] at z; cases z))
    exact ⟨this.1, hlet_i (this.2 (by rw [hR_sR, if_pos ⟨rfl, rfl⟩]))⟩
  | some q =>
    unfold wJ1_navigableKeySet_b26
    exact cm_some (hQ o G q h (h.view (Or.inr (Or.inl ⟨rfl, rfl⟩)) e) gFr.rf e (fun _ => gFr.rf))
theorem s_biGo (j : Nat) {Q : hG → Option Nat → Prop} (h : pBr o G b a x B) (hb : b ≠ 0) (hQ : ∀ o' G' it, pBi o' G' b a x B j [] (keys B) it → gFr (gOnly (b, 0)) o G o' G' → ((∃ v, hR G (x 0) 7 = some v) → gFr gNo o G o' G') → Q G' (some it)) : wJ1_keySet (fun G23 z24 => ∃ a29, z24 = some a29 ∧ (hcl G23 a29 14 ∧ (wJ18_iterator (fun G30 z31 => Q G30 z31) a29 G23))) (x 0) G := by
  have hh := h
  obtain ⟨h8, ⟨E, p1, p2⟩, h9⟩ := h
  unfold wJ1_keySet
  refine ⟨hclt p1.c, s_navKS2 p1 (on_00 hb) fun o1 G1 q g1 g2 g3 g4 g5 => ⟨q, rfl, hclt g2.1, ?_⟩⟩
  refine s_ksIt g1 g2 (0, j) fun o2 G2 it _ k1 k2 => ?_
  have f : gFr (gOnly (b, 0)) o G o2 G2 := g3.tr (k2 _)
  have hk : keys B = E.map Prod.fst := p2.keys.symm
  refine hQ o2 G2 it ⟨?_, ⟨q, ((k2 gNo).S g1.c g1.ow (fun z => z)).R g4⟩, [], E, k1, rfl, hk.symm, rfl⟩ f (fun z => (g5 z).tr (k2 _))
  have g4 := hh.put0 (V := bW B) hb g3 ⟨E, g1, vInt.fr g3 (on_0 hb) p2⟩
  exact g4.fr (k2 gNo) (fun _ z => z) (fun z => z)
theorem s_biHas {Q : hG → Int32 → Prop} {j : Nat} {K1 K2 : List Wd} {it : Nat} (h : pBi o G b a x B j K1 K2 it) (h0 : K2 = [] → Q G 0) (h1 : K2 ≠ [] → Q G 1) : wJ15_hasNext_c11 Q it G := by
  obtain ⟨-, -, E1, E2, h2, h3, h4, h5⟩ := h
  refine s_hasN11 h2 (fun z => h0 (by rw [← h4, z]; rfl)) (fun z => h1 fun y => z ?_)
  rw [← h4] at y
  exact List.map_eq_nil_iff.mp y
theorem s_biNext {Q : hG → Option Nat → Prop} {j : Nat} {K1 K2 : List Wd} {it : Nat} {w : Wd} (hj : 8 ≤ j) (h : pBi o G b a x B j K1 (w :: K2) it) (hb : b ≠ 0) (hQ : ∀ G' y, pBi o G' b a x B j (K1 ++ [w]) K2 it → gFr (gOnly (0, j)) o G o G' → pW o G' y w → Q G' (some y)) : wJ17_next Q it G := by
  obtain ⟨h1, ⟨v, hv⟩, E1, E2, h2, h3, h4, h5⟩ := h
  cases E2 with
  | nil => cases h4
  | cons e E2 =>
    rw [List.map_cons] at h4
    injection h4 with h4 h6
    refine s_next11 h2 (fun z => hb (congrArg Prod.fst z).symm) (fun z => by have : j = 0 := congrArg Prod.snd z; omega) fun G' y g1 g2 g3 => ?_
    have f : gFr tM o G o G' := g2.t0 hj
    have hx := h1.2.1
    obtain ⟨E0, p1, -⟩ := hx
    refine hQ G' y ⟨h1.ft hb f, ⟨v, (f.S p1.c p1.ow (tM_b hb)).R hv⟩, E1 ++ [e], E2, g1, ?_, h6, ?_⟩ g2 (by rw [← h4]; exact g3)
    · rw [List.map_append, h3, ← h4]
      rfl
    · rw [← h5, List.append_assoc]
      rfl
theorem pBi.ic {j : Nat} {K1 K2 : List Wd} {it : Nat} (h : pBi o G b a x B j K1 K2 it) : hC G it = some (11, true) := by
  obtain ⟨-, -, E1, E2, h2, -⟩ := h
  exact h2.ic
/-! what is suggested -/
def insI (e : It) : List It → List It
  | [] => [e]
  | y :: T => if iLb e y then e :: y :: T else y :: insI e T
theorem insI_len {e : It} : ∀ {T : List It}, (insI e T).length = T.length + 1
  | [] => rfl
  | y :: T => by
    unfold insI
    by_cases c : iLb e y = true
    · rw [if_pos c]
      rfl
    · rw [if_neg c, List.length_cons, insI_len]
      rfl
theorem insI_mem {e : It} : ∀ {T : List It} {y : It}, y ∈ insI e T ↔ y = e ∨ y ∈ T
  | [], y => by simp [insI]
  | z :: T, y => by
    unfold insI
    by_cases c : iLb e z = true
    · rw [if_pos c]
      simp
    · rw [if_neg c, List.mem_cons, insI_mem, List.mem_cons]
      constructor
      · rintro (h | h | h)
        · exact Or.inr (Or.inl h)
        · exact Or.inl h
        · exact Or.inr (Or.inr h)
      · rintro (h | h | h)
        · exact Or.inr (Or.inl h)
        · exact Or.inl h
        · exact Or.inr (Or.inr h)
theorem insI_pw {e : It} : ∀ {T : List It}, T.Pairwise (fun p q => iLb p q = true) → e ∉ T → (insI e T).Pairwise (fun p q => iLb p q = true)
  | [], _, _ => by simp [insI]
  | z :: T, h, hn => by
    obtain ⟨h1, h2⟩ := List.pairwise_cons.mp h
    unfold insI
    by_cases c : iLb e z = true
    · rw [if_pos c]
      refine List.pairwise_cons.mpr ⟨fun y hy => ?_, h⟩
      rcases List.mem_cons.mp hy with hy | hy
      · rw [hy]
        exact c
      · exact iLb_tr c (h1 y hy)
    · rw [if_neg c]
      refine List.pairwise_cons.mpr ⟨fun y hy => ?_, insI_pw h2 (fun q => hn (List.mem_cons_of_mem _ q))⟩
      rcases insI_mem.mp hy with hy | hy
      · rw [hy]
        apply Classical.byContradiction
        intro d
        exact hn (by rw [iLb_tri c d]; exact List.mem_cons_self ..)
      · exact h1 y hy
def sgD (B : Bk) (t w : Wd) : Nat := if bnd B t w then 13 else dist (bK B) t w
def sgS (B : Bk) (t : Wd) (T : List It) (w : Wd) : List It := if bE B 0 < nI (sgD B t w) then T else insI (w, cnt B w, sgD B t w) T
def sgT (B : Bk) (t : Wd) : List It := (keys B).foldl (sgS B t) []
theorem sgS_mem {B : Bk} {t w : Wd} {T : List It} {y : It} (h : y ∈ sgS B t T w) : y.1 = w ∨ y ∈ T := by
  unfold sgS at h
  by_cases c : bE B 0 < nI (sgD B t w)
  · rw [if_pos c] at h
    exact Or.inr h
  · rw [if_neg c] at h
    rcases insI_mem.mp h with h | h
    · rw [h]
      exact Or.inl rfl
    · exact Or.inr h
theorem sgT_pw {B : Bk} {t : Wd} : ∀ (K : List Wd) (T : List It), K.Nodup → (∀ y, y ∈ T → y.1 ∉ K) → T.Pairwise (fun p q => iLb p q = true) → (K.foldl (sgS B t) T).Pairwise (fun p q => iLb p q = true)
  | [], _, _, _, h => h
  | w :: K, T, h1, h2, h3 => by
    rw [List.foldl_cons]
    obtain ⟨h4, h5⟩ := List.nodup_cons.mp h1
    refine sgT_pw K _ h5 (fun y hy => ?_) ?_
    · rcases sgS_mem hy with z | z
      · rw [z]
        exact h4
      · exact fun q => h2 y z (List.mem_cons_of_mem _ q)
    · unfold sgS
      by_cases c : bE B 0 < nI (sgD B t w)
      · rw [if_pos c]
        exact h3
      · rw [if_neg c]
        exact insI_pw h3 fun z => h2 _ z (List.mem_cons_self ..)
end P29
