/-! ===== plain law 10: TreeMap.put ===== -/
set_option maxRecDepth 100000
section PTM10
variable {o o' : gO} {G G' : hG} {u : Nat × Nat} {t s s' : Nat} {L : List Nat} {k : Nat → Wd} {v : Nat → Option Nat} {sub sub' : Nat → List Nat} {root root' : Option Nat}
theorem pTM.val (h : pTM o G u t s L k v sub root) (hu : u ≠ (0, 0)) {n : Nat} (hn : n ∈ L) (x : Option Nat) : pTM o (hsR G n 1 x) u t s L k (fu v n x) sub root := by
  have h0 : ¬ gOnly u (0, 0) := fun z => hu z.symm
  have hf : gFr (gOnly u) o G o (hsR G n 1 x) := gFr.rf.sR (Or.inr (h.no hn))
  have nt : t ≠ n := fun z => h.nt (by rw [z]; exact hn)
  have rj : ∀ b j, j ≠ 1 → hR (hsR G n 1 x) b j = hR G b j := fun b j z => by rw [hR_sR, if_neg (fun w => z w.2)]
  have rb : ∀ b j, b ≠ n → hR (hsR G n 1 x) b j = hR G b j := fun b j z => by rw [hR_sR, if_neg (fun w => z w.1)]
  refine ⟨h.c, h.ow, h.sz, (rb t 2 nt).trans h.cmp, (rb t 3 nt).trans h.rt, h.nt, h.len, fun b hb => ?_, h.ti.congr (fun b _ => rj b 2 (by decide)) (fun b _ => rj b 3 (by decide)) (fun b _ => rj b 4 (by decide)), ?_⟩
  · obtain ⟨a1, a2, ⟨a', a3, a4⟩, a5, a6⟩ := h.nd b hb
    refine ⟨a1, a2, ⟨a', (rj b 0 (by decide)).trans a3, a4.fr hf h0⟩, ?_, a6⟩
    by_cases c : b = n
    · rw [c, fu_s, hR_sR, if_pos ⟨rfl, rfl⟩]
    · rw [fu_n c, rb b 1 c]
      exact a5
  · exact h.vw.fr hf ⟨rfl, rfl, rfl, funext fun j => rb t j nt⟩ h0
theorem s_put_l {Q : hG → Option Nat → Prop} {a : Nat} {key : Wd} {x : Option Nat} (h : pTM o G u t s L k v sub root) (hu : u ≠ (0, 0)) (hlen : L.length < 1000) (hpw : L.Pairwise (kLt k)) (hk : pW o G a key)
    (hQ1 : ∀ n, n ∈ L → k n = key → ∀ G', pTM o G' u t s L k (fu v n x) sub root → gFr (gOnly u) o G o G' → Q G' (v n))
    (hQ0 : ∀ A B, L = A ++ B → (∀ y, y ∈ A → wlt (k y) key = true) → (∀ y, y ∈ B → wlt key (k y) = true) → ∀ o' G' sub' root' q, q ∉ L → pTM o' G' u t (s + 1) (A ++ q :: B) (fu k q key) (fu v q x) sub' root' → gFr (gOnly u) o G o' G' → Q G' none) :
    ∀ (d m : Nat) (A B : List Nat), (sub m).length ≤ d → m ∈ L → L = A ++ sub m ++ B → (∀ y, y ∈ A → wlt (k y) key = true) → (∀ y, y ∈ B → wlt key (k y) = true) → ∃ n, wJ1_put_2_l123 Q n t (some a) x 1 m (some a) G := by
  intro d
  induction d with
  | zero =>
    intro m A B hd hm _ _ _
    exact absurd (List.eq_nil_of_length_eq_zero (by omega)) (so_ne h.ti hm)
  | succ d ih =>
    intro m A B hd hm hL hA hB
    obtain ⟨g1, g2, ⟨b, g3, g4⟩, g5, -⟩ := h.nd m hm
    have hsub : sub m = so sub (hR G m 2) ++ m :: so sub (hR G m 3) := h.ti.eq hm
    have hpw2 := h.ti.pws hpw hm
    rw [hsub] at hpw2
    have hmid := pw_mid hpw2
    have hlen2 : (sub m).length = (so sub (hR G m 2)).length + ((so sub (hR G m 3)).length + 1) := by rw [hsub, List.length_append, List.length_cons]
    have step : ∀ n, (∀ z, cmpR z key (k m) → (0 ≤ z → (z ≤ 0 → wJ1_put_2_b187 Q x m (v m) G) ∧ (¬ z ≤ 0 → wJ1_put_2_b196 Q (wJ1_put_2_l123 Q n) t (some a) x 1 (hR G m 3) z m a G)) ∧ (¬ 0 ≤ z → wJ1_put_2_b196 Q (wJ1_put_2_l123 Q n) t (some a) x 1 (hR G m 2) z m a G)) → ∃ n, wJ1_put_2_l123 Q n t (some a) x 1 m (some a) G := by
      intro n hz
      refine ⟨n + 1, ?_⟩
      show wJ1_put_2_b123 Q (wJ1_put_2_l123 Q n) _ _ _ _ _ _ _
      unfold wJ1_put_2_b123
      refine ⟨hclt g1, hlet_i ⟨a, rfl, hclt hk.1, ?_⟩⟩
      rw [g3]
      refine s_compareTo hk g4 fun z hc => ⟨fun c => ⟨fun c2 => ⟨hclt g1, hlet_i (br_f (by decide) ?_)⟩, fun c2 => ⟨hclt g1, hlet_i ?_⟩⟩, fun c => ⟨hclt g1, hlet_i ?_⟩⟩
      · rw [g5]
        exact ((hz z hc).1 c).1 c2
      · exact ((hz z hc).1 c).2 c2
      · exact (hz z hc).2 c
    by_cases e : key = k m
    · refine step 0 fun z hc => ?_
      rw [hc.1.mpr e]
      refine ⟨fun _ => ⟨fun _ => ?_, fun c => absurd (by decide) c⟩, fun c => absurd (by decide) c⟩
      unfold wJ1_put_2_b187 wJ1_put_2_b193
      exact ⟨g1, hlet_i (hQ1 m hm e.symm _ (h.val hu hm x) (gFr.rf.sR (Or.inr g2)))⟩
    · cases hw : wlt key (k m) with
      | true =>
        have fin : ∀ n, (hR G m 2 = none → wJ1_put_2_b216 Q t (some a) x m 1 G) ∧ (∀ c, hR G m 2 = some c → wJ1_put_2_l123 Q n t (some a) x 1 c (some a) G) → ∃ n, wJ1_put_2_l123 Q n t (some a) x 1 m (some a) G := fun n hn => by
          refine step n fun z hc => ?_
          have hz := hc.2.mpr hw
          refine ⟨fun c => absurd hz (Int32.not_lt.mpr c), fun c => ?_⟩
          unfold wJ1_put_2_b196
          exact ⟨fun e2 => br_f c (hn.1 e2), fun y e2 => hn.2 y e2⟩
        cases hl : hR G m 2 with
        | none =>
          refine fin 0 ⟨fun _ => ?_, fun c z => by rw [hl] at z; cases z⟩
          unfold wJ1_put_2_b216
          rw [hl] at hsub
          have hL2 : L = A ++ (m :: so sub (hR G m 3) ++ B) := by
            rw [hL, hsub]
            simp [so]
          have h' := h
          rw [hL2] at h' hlen
          have hB2 : ∀ y, y ∈ m :: so sub (hR G m 3) ++ B → wlt key (k y) = true := fun y hy => by
            rcases List.mem_append.mp hy with w | w
            · rcases List.mem_cons.mp w with w | w
              · rw [w]
                exact hw
              · exact wlt_tr _ _ _ hw (hmid.2 y w)
            · exact hB y w
          refine ⟨hclt h.c, s_addEntry h' hu hlen hk (Or.inl ⟨rfl, hl, so sub (hR G m 3) ++ B, rfl⟩) fun o' G' sub' root' q hq h2 f2 => hQ0 A _ hL2 hA hB2 o' G' sub' root' q (by rw [hL2]; exact hq) h2 f2⟩
        | some c =>
          have hc := h.ti.lc hm hl
          rw [hl] at hsub hlen2
          obtain ⟨n, hn⟩ := ih c A (m :: so sub (hR G m 3) ++ B) (by have h9 : (so sub (some c)).length = (sub c).length := rfl; omega) hc.1 (by rw [hL, hsub]; simp [so]) hA (fun y hy => by
            rcases List.mem_append.mp hy with w | w
            · rcases List.mem_cons.mp w with w | w
              · rw [w]
                exact hw
              · exact wlt_tr _ _ _ hw (hmid.2 y w)
            · exact hB y w)
          exact fin n ⟨fun z => (by rw [hl] at z; cases z), fun c' z => by rw [hl] at z; cases z; exact hn⟩
      | false =>
        have hw2 : wlt (k m) key = true := by
          cases hw3 : wlt (k m) key with
          | true => rfl
          | false => exact absurd (wlt_tri _ _ hw hw3) e
        have fin : ∀ n, (hR G m 3 = none → wJ1_put_2_b216 Q t (some a) x m 0 G) ∧ (∀ c, hR G m 3 = some c → wJ1_put_2_l123 Q n t (some a) x 1 c (some a) G) → ∃ n, wJ1_put_2_l123 Q n t (some a) x 1 m (some a) G := fun n hn => by
          refine step n fun z hc => ?_
          have hz := hc.gt.mpr hw2
          refine ⟨fun c => ⟨fun c2 => absurd hz (Int32.not_lt.mpr c2), fun c2 => ?_⟩, fun c => absurd (Int32.le_of_lt hz) c⟩
          unfold wJ1_put_2_b196
          exact ⟨fun e2 => br_t c (hn.1 e2), fun y e2 => hn.2 y e2⟩
        have hA2 : ∀ y, y ∈ A ++ so sub (hR G m 2) ++ [m] → wlt (k y) key = true := fun y hy => by
          rcases List.mem_append.mp hy with w | w
          · rcases List.mem_append.mp w with w | w
            · exact hA y w
            · exact wlt_tr _ _ _ (hmid.1 y w) hw2
          · rw [List.mem_singleton.mp w]
            exact hw2
        cases hl : hR G m 3 with
        | none =>
          refine fin 0 ⟨fun _ => ?_, fun c z => by rw [hl] at z; cases z⟩
          unfold wJ1_put_2_b216
          rw [hl] at hsub
          have hL2 : L = (A ++ so sub (hR G m 2) ++ [m]) ++ B := by
            rw [hL, hsub]
            simp [so]
          have h' := h
          rw [hL2] at h' hlen
          refine ⟨hclt h.c, s_addEntry h' hu hlen hk (Or.inr ⟨rfl, hl, A ++ so sub (hR G m 2), rfl⟩) fun o' G' sub' root' q hq h2 f2 => hQ0 _ B hL2 hA2 hB o' G' sub' root' q (by rw [hL2]; exact hq) h2 f2⟩
        | some c =>
          have hc := h.ti.rc hm hl
          rw [hl] at hsub hlen2
          obtain ⟨n, hn⟩ := ih c (A ++ so sub (hR G m 2) ++ [m]) B (by have h9 : (so sub (some c)).length = (sub c).length := rfl; omega) hc.1 (by rw [hL, hsub]; simp [so]) hA2 hB
          exact fin n ⟨fun z => (by rw [hl] at z; cases z), fun c' z => by rw [hl] at z; cases z; exact hn⟩
theorem s_put {Q : hG → Option Nat → Prop} {a : Nat} {key : Wd} {x : Option Nat} (h : pTM o G u t L.length L k v sub root) (hu : u ≠ (0, 0)) (hlen : L.length < 1000) (hpw : L.Pairwise (kLt k)) (hk : pW o G a key)
    (hQ1 : ∀ n, n ∈ L → k n = key → ∀ G', pTM o G' u t L.length L k (fu v n x) sub root → gFr (gOnly u) o G o G' → Q G' (v n))
    (hQ0 : ∀ A B, L = A ++ B → (∀ y, y ∈ A → wlt (k y) key = true) → (∀ y, y ∈ B → wlt key (k y) = true) → ∀ o' G' sub' root' q, q ∉ L → pTM o' G' u t (L.length + 1) (A ++ q :: B) (fu k q key) (fu v q x) sub' root' → gFr (gOnly u) o G o' G' → Q G' none) : wJ1_put Q t (some a) x G := by
  unfold wJ1_put
  refine ⟨hclt h.c, ?_⟩
  unfold wJ1_put_2
  refine ⟨hclt h.c, hlet_i ?_⟩
  rw [h.rt]
  have hro := h.ti.ro
  cases e : root with
  | none =>
    rw [e] at hro h
    have hL : L = [] := hro.symm
    refine cm_none ⟨hclt h.c, ?_⟩
    unfold wJ1_addEntryToEmptyMap wJ1_compare
    refine ⟨hclt h.c, hclt h.c, hlet_i ?_⟩
    rw [h.cmp]
    refine cm_none ⟨fun y z => by cases z; exact hclt hk.1, a, rfl, hclt hk.1, s_compareTo hk hk fun z _ => ?_⟩
    intro q hq
    have h0 : ¬ gOnly u (0, 0) := fun z => hu z.symm
    have hqt : t ≠ q := fun z => by
      have := h.c
      rw [z, hq] at this
      cases this
    refine hlet_i (s_newE (by rw [hC_nw, if_pos rfl]) ?_)
    obtain ⟨G2, hG2⟩ : ∃ G2, G2 = hsR (hsR (hsR (hsI (hnw G q 10 0) q 5 1) q 0 (some a)) q 1 x) q 4 none := ⟨_, rfl⟩
    have f2 : gFr (gOnly u) o G (gU o q u) G2 := by
      rw [hG2]
      exact ((((gFr.rf.nw u hq).sI (Or.inl hq)).sR (Or.inl hq)).sR (Or.inl hq)).sR (Or.inl hq)
    rw [← hG2]
    refine ⟨f2.C h.c, hlet_i ⟨f2.C h.c, hlet_i ⟨hclt (f2.C h.c), f2.C h.c, hlet_i ?_⟩⟩⟩
    obtain ⟨G3, hG3⟩ : ∃ G3, G3 = hsI (hsI (hsR G2 t 3 (some q)) t 4 1) t 5 (hI (hsI (hsR G2 t 3 (some q)) t 4 1) t 5 + 1) := ⟨_, rfl⟩
    rw [← hG3]
    have f3 : gFr (gOnly u) o G (gU o q u) G3 := by
      rw [hG3]
      exact ((f2.sR (Or.inr h.ow)).sI (Or.inr h.ow)).sI (Or.inr h.ow)
    have rr : ∀ b j, hR G3 b j = if b = t ∧ j = 3 then some q else if b = q ∧ j = 4 then none else if b = q ∧ j = 1 then x else if b = q ∧ j = 0 then some a else if b = q then none else hR G b j := fun b j => by
      rw [hG3, hR_sI, hR_sI, hR_sR, hG2, hR_sR, hR_sR, hR_sR, hR_sI, hR_nw]
    have rt9 : ∀ j, j ≠ 3 → hR G3 t j = hR G t j := fun j z => by
      rw [rr, if_neg (fun w => z w.2), if_neg (fun w => hqt w.1), if_neg (fun w => hqt w.1), if_neg (fun w => hqt w.1), if_neg hqt]
    have rq : ∀ j, 2 ≤ j → hR G3 q j = none := fun j z => by
      rw [rr, if_neg (fun w => hqt w.1.symm)]
      by_cases c : j = 4
      · rw [if_pos ⟨rfl, c⟩]
      · rw [if_neg (fun w => c w.2), if_neg (fun w => by have := w.2; omega), if_neg (fun w => by have := w.2; omega), if_pos rfl]
    refine hQ0 [] [] (by rw [hL]; rfl) (fun y z => by cases z) (fun y z => by cases z) (gU o q u) G3 (fun _ => [q]) (some q) q (by rw [hL]; simp) ⟨f3.C h.c, (f3.O h.c).trans h.ow, ?_, (rt9 2 (by decide)).trans h.cmp, ?_, by simpa using hqt, by simp, fun n hn => ?_, ?_, ?_⟩ f3
    · rw [hG3, hI_sI, if_neg (fun z => by have := z.2; omega), hI_sI, if_pos ⟨rfl, rfl⟩, hL]
      rfl
    · rw [rr, if_pos ⟨rfl, rfl⟩]
    · have hn2 : n = q := by simpa using hn
      rw [hn2, fu_s, fu_s]
      refine ⟨?_, gU_s, ⟨a, ?_, hk.fr f3 h0⟩, ?_, Or.inr ?_⟩
      · rw [hG3, hC_sI, hC_sI, hC_sR, hG2, hC_sR, hC_sR, hC_sR, hC_sI, hC_nw, if_pos rfl]
      · rw [rr, if_neg (fun w => hqt w.1.symm), if_neg (fun w => by have := w.2; omega), if_neg (fun w => by have := w.2; omega), if_pos ⟨rfl, rfl⟩]
      · rw [rr, if_neg (fun w => hqt w.1.symm), if_neg (fun w => by have := w.2; omega), if_pos ⟨rfl, rfl⟩]
      · rw [hG3, hI_sI, if_neg (fun w => hqt w.1.symm), hI_sI, if_neg (fun w => hqt w.1.symm), hI_sR, hG2, hI_sR, hI_sR, hI_sR, hI_sI, if_pos ⟨rfl, rfl⟩]
    · have q2 : ∀ n, n ∈ ([] : List Nat) ++ q :: [] → n = q := fun n hn => by simpa using hn
      refine ⟨by simp, rfl, fun r z => by cases z; exact ⟨by simp, rq 4 (by decide)⟩, fun n hn => ?_, fun n hn => ⟨[], [], rfl⟩, fun n c hn z => ?_, fun n c hn z => ?_, fun n p hn z => ?_, fun n hn z => by rw [q2 n hn]⟩
      · rw [q2 n hn]
        show [q] = so _ (hR G3 q 2) ++ q :: so _ (hR G3 q 3)
        rw [rq 2 (by decide), rq 3 (by decide)]
        rfl
      · have : hR G3 n 2 = some c := z
        rw [q2 n hn, rq 2 (by decide)] at this
        cases this
      · have : hR G3 n 3 = some c := z
        rw [q2 n hn, rq 3 (by decide)] at this
        cases this
      · have : hR G3 n 4 = some p := z
        rw [q2 n hn, rq 4 (by decide)] at this
        cases this
    · have key : ∀ (j ci : Nat), j ≠ 3 → (∀ q, hR G t j = some q → hC G q = some (ci, true) ∧ o q = (0, 0) ∧ hR G q 0 = some t) → (∀ q', hR G3 t j = some q' → hC G3 q' = some (ci, true) ∧ gU o q u q' = (0, 0) ∧ hR G3 q' 0 = some t) := by
        intro j ci hj g q' e
        rw [rt9 j hj] at e
        obtain ⟨b1, b2, b3⟩ := g q' e
        exact ⟨f3.C b1, (f3.O b1).trans b2, (f3.S b1 b2 h0).R b3⟩
      exact ⟨key 6 16 (by decide) h.vw.1, key 7 14 (by decide) h.vw.2.1, key 1 15 (by decide) h.vw.2.2⟩
  | some r =>
    rw [e] at hro
    have hL : sub r = L := hro
    refine cm_some ⟨hclt h.c, hlet_i ?_⟩
    rw [h.cmp]
    refine cm_none ?_
    unfold wJ11_requireNonNull
    refine cm_some ⟨fun y z => by cases z; exact hclt hk.1, ?_⟩
    subst e
    exact s_put_l h hu hlen hpw hk hQ1 hQ0 _ r [] [] (Nat.le_refl _) (h.ti.rp rfl).1 (by rw [hL]; simp) (fun y z => by cases z) (fun y z => by cases z)
end PTM10
