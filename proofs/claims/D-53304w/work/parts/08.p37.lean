/-! ===== plain law 37: corrected, estrange, correct, takeBack, allow ===== -/
set_option maxRecDepth 100000
section P37
variable {b a : Nat} {x : Nat → Nat} {B : Bk} {l m : Wd} {c : Nat} {o : gO} {G : hG}
/-- a kept list with its list's address -/
def pKl (o : gO) (G : hG) (u : Nat × Nat) (k most bl : Nat) (V : List Mt) : Prop := ∃ L, pKr o G u k most bl L V
section KL
variable {u : Nat × Nat} {k most bl i : Nat} {V : List Mt}
theorem pKl.fr {M : Nat × Nat → Prop} {o' : gO} {G' : hG} (h : pKl o G u k most bl V) (hf : gFr M o G o' G') (hu : ¬ M u) (h0 : ¬ M (0, 0)) : pKl o' G' u k most bl V := by
  obtain ⟨L, h⟩ := h
  exact ⟨L, h.fr hf hu h0⟩
theorem pKl.kt (h : pKl o G u k most bl V) : pKt o G u k most V := ⟨bl, h⟩
theorem pKl.at (h : pKl o G u k most bl V) : hC G k = some (3, true) ∧ hR G k 0 = some bl ∧ hC G bl = some (18, true) := by
  obtain ⟨L, h⟩ := h
  exact ⟨h.1, h.2.2.1, h.cl⟩
theorem s_klrem {Q : hG → Option Nat → Prop} (h : pKl o G u k most bl V) (hu : u ≠ (0, 0)) (hi : i < V.length) (hQ : ∀ G' y, pKl o G' u k most bl (V.eraseIdx i) → gFr (gOnly u) o G o G' → hcl G' y 5 → Q G' (some y)) : wJ6_remove Q bl (nI i) G := by
  obtain ⟨L, h⟩ := h
  have h0 : ¬ gOnly u (0, 0) := fun z => hu z.symm
  have hh := h
  obtain ⟨h1, h2, h3, h4, h5, h6, h7, h8⟩ := h
  have hL : i < L.length := by rw [h6.1]; exact hi
  refine s_alremove h5 hL fun G' k1 k2 => hQ G' _ ⟨_, hh.put hu k2 k1 (h6.fr k2 h0).erase ?_⟩ k2 ?_
  · rw [List.length_eraseIdx_of_lt hi]
    omega
  · exact k2.cl (hclt (h6.2 i _ _ (List.getElem?_eq_getElem hL) (List.getElem?_eq_getElem hi)).1)
theorem s_klset {Q : hG → Option Nat → Prop} {y : Nat} {e : Mt} (h : pKl o G u k most bl V) (hu : u ≠ (0, 0)) (hi : i < V.length) (hy : pM o G y e) (hQ : ∀ G' y, pKl o G' u k most bl (V.set i e) → gFr (gOnly u) o G o G' → hcl G' y 5 → Q G' (some y)) : wJ6_set Q bl (nI i) (some y) G := by
  obtain ⟨L, h⟩ := h
  have h0 : ¬ gOnly u (0, 0) := fun z => hu z.symm
  have hh := h
  obtain ⟨h1, h2, h3, h4, h5, h6, h7, h8⟩ := h
  have hL : i < L.length := by rw [h6.1]; exact hi
  refine s_alset h5 hL (hob5 hy) fun G' k1 k2 => hQ G' _ ⟨_, hh.put hu k2 k1 ((h6.fr k2 h0).set (hy.fr k2 h0)) ?_⟩ k2 ?_
  · rw [List.length_set]
    exact h8
  · exact k2.cl (hclt (h6.2 i _ _ (List.getElem?_eq_getElem hL) (List.getElem?_eq_getElem hi)).1)
end KL
def d0 : Mt := ([], [], 0)
theorem getD_at {V : List Mt} {k : Nat} (h : k < V.length) : V.getD k d0 = V[k] := by rw [List.getD_eq_getElem?_getD, List.getElem?_eq_getElem h]; rfl
def frS (V : List Mt) (least k : Nat) : Nat := if (V.getD k d0).2.2 < (V.getD least d0).2.2 then k else least
def frg (V : List Mt) : Nat := (List.range' 1 (V.length - 1)).foldl (frS V) 0
def fgt (V : List Mt) : List Mt := if V.length = 24 then V.eraseIdx (frg V) else V
def kad (most : Nat) (V : List Mt) (e : Mt) : List Mt := (if V.length = most then V.eraseIdx 0 else V) ++ [e]
theorem s_forget {Q : hG → Prop} (hb : b ≠ 0) (hg : ∀ e, e ∈ bP B → e.2.2 ≤ 99) (h : pBr o G b a x B) (hQ : ∀ G', pBr o G' b a x (oP B (fgt (bP B))) → gFr (gOnly (b, 2)) o G o G' → Q G') : wX2_forget Q a G := by
  have hh := h
  obtain ⟨⟨h1, h2, h3⟩, -, -, p2, -⟩ := h
  obtain ⟨m1, m2, m3⟩ := p2.mem
  obtain ⟨bl, p2l⟩ := p2
  have fin : ∀ least, least = frg (bP B) → (bP B).length ≤ (bP B).length → (least < (bP B).length ∨ (bP B).length = 0) → ∀ v2 : Nat, (bP B).length ≤ v2 → v2 < 100 → ∀ r, wX2_forget_b4 Q r a (nI least) (nI v2) G := by
    intro least e1 _ e2 v2 e3 e4 r
    unfold wX2_forget_b4
    refine ⟨hclt h1, hlet_i ⟨x 2, h3 2 (by decide), hclt m3, s_ksize (pKl.kt p2l) (br_t (nI_le e3 (by omega)) ⟨hclt h1, hlet_i ⟨x 2, h3 2 (by decide), hclt m3, s_isFull (pKl.kt p2l) (fun z => br_f (by decide) ?_) (fun z => br_t rfl ?_)⟩⟩)⟩⟩
    · obtain ⟨_, q2, q3⟩ := pKl.at p2l
      refine ⟨hclt h1, hlet_i ⟨x 2, h3 2 (by decide), hclt m3, hlet_i ⟨bl, q2, hclt q3, s_klrem p2l (on_00 hb) (by omega) fun G' y k1 k2 k3 => ⟨fun y' ey => (by cases ey; exact k3), ?_⟩⟩⟩⟩
      unfold wX2_forget_b83
      refine hQ G' (hh.put2 hb k2 ?_) k2
      unfold fgt
      rw [if_pos z, ← e1]
      exact k1.kt
    · unfold wX2_forget_b83
      have q := hQ G
      unfold fgt at q
      rw [if_neg z] at q
      exact q hh gFr.rf
  have lp : ∀ (d k least n : Nat), d < n → k + d = (bP B).length → least < k → (List.range' k d).foldl (frS (bP B)) least = frg (bP B) → wX2_forget_l4 Q n a (nI least) (nI k) G := by
    intro d
    induction d with
    | zero =>
      intro k least n hn hk hl he
      obtain ⟨n, rfl⟩ : ∃ m, n = m + 1 := ⟨n - 1, by omega⟩
      exact fin least he (Nat.le_refl _) (Or.inl (by omega)) k (by omega) (by omega) _
    | succ d ih =>
      intro k least n hn hk hl he
      obtain ⟨n, rfl⟩ : ∃ m, n = m + 1 := ⟨n - 1, by omega⟩
      have k1 : k < (bP B).length := by omega
      have l1 : least < (bP B).length := by omega
      show wX2_forget_b4 Q (wX2_forget_l4 Q n) _ _ _ _
      unfold wX2_forget_b4
      refine ⟨hclt h1, hlet_i ⟨x 2, h3 2 (by decide), hclt m3, s_ksize (pKl.kt p2l) (br_f (nI_ge k1 (by omega)) ⟨hclt h1, hlet_i ⟨x 2, h3 2 (by decide), hclt m3, s_kget (pKl.kt p2l) k1 fun y hy => ⟨fun z ez => (by cases ez; exact hclt hy.1), y, rfl, hclt hy.1, hclt h1, hlet_i ⟨x 2, h3 2 (by decide), hclt m3, s_kget (pKl.kt p2l) l1 fun y2 hy2 => ⟨fun z ez => (by cases ez; exact hclt hy2.1), y2, rfl, hclt hy2.1, ?_⟩⟩⟩⟩⟩)⟩⟩
      have a1 := hg _ (List.getElem_mem k1)
      have a2 := hg _ (List.getElem_mem l1)
      rw [hy.2.2.2.2, hy2.2.2.2.2]
      rw [show List.range' k (d + 1) = k :: List.range' (k + 1) d from rfl, List.foldl_cons] at he
      unfold wX2_forget_b51
      rw [show nI k + (1 : Int32) = nI (k + 1) from nI_1 _]
      refine br_c (fun z => ?_) (fun z => ?_)
      · have z1 := (nI_leI (by omega) (by omega)).mp z
        have : frS (bP B) least k = least := by
          unfold frS
          rw [getD_at k1, getD_at l1]
          exact if_neg (by omega)
        rw [this] at he
        exact ih (k + 1) least n (by omega) (by omega) (by omega) he
      · have z1 : ¬ (bP B)[least].2.2 ≤ (bP B)[k].2.2 := fun y => z ((nI_leI (by omega) (by omega)).mpr y)
        have : frS (bP B) least k = k := by
          unfold frS
          rw [getD_at k1, getD_at l1]
          exact if_pos (by omega)
        rw [this] at he
        exact ih (k + 1) k n (by omega) (by omega) (by omega) he
  unfold wX2_forget
  by_cases e : (bP B).length = 0
  · refine ⟨1, ?_⟩
    refine fin 0 ?_ (Nat.le_refl _) (Or.inr e) 1 (by omega) (by omega) _
    unfold frg
    rw [e]
    rfl
  · exact ⟨(bP B).length + 1, lp ((bP B).length - 1) 1 0 _ (by omega) (by omega) (by omega) rfl⟩
def crd (B : Bk) (t w : Wd) : Bk := match plc (bP B) t w with
  | none => oP (oL B (kad 20 (bL B) (t, w, 0))) (kad 24 (fgt (bP B)) (t, w, 1))
  | some k => oP (oL B (kad 20 (bL B) (t, w, 0))) ((bP B).set k (t, w, min 99 (((bP B).getD k d0).2.2 + 1)))
theorem s_corrected {Q : hG → Option Nat → Prop} {t v : Nat} (hb : b ≠ 0) (hg : ∀ e, e ∈ bP B → e.2.2 ≤ 99) (h : pBr o G b a x B) (ht : pW o G t l) (hv : pW o G v m) (hQ : ∀ o' G', pBr o' G' b a x (crd B l m) → gFr (qM b) o G o' G' → Q G' (some v)) : wX2_corrected Q a t v G := by
  have hh := h
  obtain ⟨⟨h1, h2, h3⟩, -, -, -, -, -, p5, -⟩ := h
  have e5 := p5.mem
  unfold wX2_corrected
  refine ⟨hclt h1, hlet_i ?_⟩
  rw [h3 5 (by decide)]
  refine s_newM (e := (l, m, 0)) (P := _) ht hv fun q o1 G1 _ q1 f1 => ⟨x 5, rfl, ?_⟩
  have b1 := hh.fr (f1 gNo) (fun _ z => z) (fun z => z)
  have p51 := b1.2.2.2.2.2.2.1
  refine ⟨hclt p51.mem.2.2, s_kadd p51 (on_00 hb) (by decide) q1 fun o2 G2 k1 k2 => ?_⟩
  have n5 : ¬ gOnly (b, 5) (0, 0) := on_0 hb
  have b2 : pBr o2 G2 b a x (oL B (kad 20 (bL B) (l, m, 0))) := b1.put5 hb k2 k1
  have t2 := (ht.fr (f1 gNo) (fun z => z)).fr k2 n5
  have v2 := (hv.fr (f1 gNo) (fun z => z)).fr k2 n5
  have f2 : gFr (qM b) o G o2 G2 := (f1 _).tr k2.q
  have b2' := b2
  obtain ⟨⟨g1, g2, g3⟩, -, -, p2, -⟩ := b2
  have e2 := p2.mem
  refine ⟨hclt g1, hlet_i ⟨x 2, g3 2 (by decide), s_placeOf p2 t2 v2 ?_⟩⟩
  unfold crd at hQ
  unfold wX2_corrected_b102
  have eP : bP (oL B (kad 20 (bL B) (l, m, 0))) = bP B := rfl
  rw [eP] at p2 e2 ⊢
  cases e : plc (bP B) l m with
  | none =>
    rw [e] at hQ
    refine br_t rfl ⟨hclt g1, s_forget (B := oL B (kad 20 (bL B) (l, m, 0))) hb (fun e he => hg e he) b2' fun G3 b3 f3 => ?_⟩
    have n2 : ¬ gOnly (b, 2) (0, 0) := on_0 hb
    have c3 := b3.1
    refine ⟨hclt c3.1, hlet_i ?_⟩
    rw [c3.2.2 2 (by decide)]
    refine s_newM (e := (l, m, 1)) (P := _) (t2.fr f3 n2) (v2.fr f3 n2) fun q o4 G4 _ q4 f4 => ⟨x 2, rfl, ?_⟩
    have b4 := b3.fr (f4 gNo) (fun _ z => z) (fun z => z)
    have p24 := b4.2.2.2.1
    refine ⟨hclt p24.mem.2.2, s_kadd p24 (on_00 hb) (by decide) q4 fun o5 G5 k5 k6 => ?_⟩
    exact hQ o5 G5 (b4.put2 hb k6 k5) (((f2.tr f3.q).tr (f4 _)).tr k6.q)
  | some k =>
    rw [e] at hQ
    obtain ⟨kk, k3, k4⟩ := plc_lt e
    refine br_f (ix_nm (by omega)) ⟨hclt g1, hlet_i ⟨x 2, g3 2 (by decide), hclt e2.2.2, s_kget p2 kk fun y hy => ⟨fun z ez => (by cases ez; exact hclt hy.1), hclt g1, hlet_i ⟨x 2, g3 2 (by decide), hclt e2.2.2, ?_⟩⟩⟩⟩
    obtain ⟨bl, p2l⟩ := p2
    have q2 := pKl.at p2l
    refine hlet_i ⟨y, rfl, hclt hy.1, hclt hy.1, ?_⟩
    have n99 := hg _ (List.getElem_mem kk)
    rw [hy.2.2.2.2, show nI (bP B)[k].2.2 + (1 : Int32) = nI ((bP B)[k].2.2 + 1) from nI_1 _, show (99 : Int32) = nI 99 from rfl, hMn_nI (by omega) (by omega), q2.2.1]
    refine s_with hy fun q o4 G4 _ q4 f4 => ⟨bl, rfl, hclt ((f4 gNo).C q2.2.2), ?_⟩
    rw [k3, k4] at q4
    refine s_klset (pKl.fr p2l (f4 gNo) (fun z => z) (fun z => z)) (on_00 hb) kk q4 fun G5 y5 k5 k6 k7 => ⟨fun z ez => (by cases ez; exact k7), ?_⟩
    have b4 := b2'.fr (f4 gNo) (fun _ z => z) (fun z => z)
    refine hQ o4 G5 (b4.put2 hb k6 ?_) ((f2.tr (f4 _)).tr k6.q)
    rw [getD_at kk]
    exact k5.kt
end P37
