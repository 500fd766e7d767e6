/-! ===== plain law 51: one command ===== -/
set_option maxRecDepth 100000
def upF {α : Type} (f : Nat → α) (k : Nat) (v : α) : Nat → α := fun j => if j = k then v else f j
def goodN (T : List Nat) (p : Nat) : Bool := decide (0 < rnM T 48 57 3 p) && !isA T (p + rnM T 48 57 3 p) 48 57
/-- arguments -/
def rdA (T : List Nat) : List Nat → Nat → Nat → (Nat → Wd) → (Nat → Nat) → Except Nat (Nat × (Nat → Wd) × (Nat → Nat))
  | [], _, p, w, n => .ok (p, w, n)
  | c :: A, k, p, w, n =>
    if rnM T 32 32 24 p = 0 then .error p
    else if c = 119 then (if goodW T (p + rnM T 32 32 24 p) then rdA T A (k + 1) (p + rnM T 32 32 24 p + rnM T 97 122 8 (p + rnM T 32 32 24 p)) (upF w k (wdT T (p + rnM T 32 32 24 p) (rnM T 97 122 8 (p + rnM T 32 32 24 p)))) n else .error (p + rnM T 32 32 24 p + rnM T 97 122 8 (p + rnM T 32 32 24 p)))
    else (if goodN T (p + rnM T 32 32 24 p) then rdA T A (k + 1) (p + rnM T 32 32 24 p + rnM T 48 57 3 (p + rnM T 32 32 24 p)) w (upF n k (dgV T (rnM T 48 57 3 (p + rnM T 32 32 24 p)) (p + rnM T 32 32 24 p) 0)) else .error (p + rnM T 32 32 24 p + rnM T 48 57 3 (p + rnM T 32 32 24 p)))
def ltT (T : List Nat) (p n : Nat) : List Nat := (List.range' p n).map (fun i => T.getD i 0)
/-- the end of a command -/
def rdE (T : List Nat) (v : Nat) : Except Nat (Nat × (Nat → Wd) × (Nat → Nat)) → Except Nat (Nat × Nat × (Nat → Wd) × (Nat → Nat))
  | .error e => .error e
  | .ok (p, w, n) => if isA T (p + rnM T 32 32 24 p) 59 59 then .ok (v, p + rnM T 32 32 24 p + 1, w, n) else .error (p + rnM T 32 32 24 p)
def rdC (T : List Nat) (p : Nat) : Except Nat (Nat × Nat × (Nat → Wd) × (Nat → Nat)) :=
  if vrb (ltT T p (rnM T 97 122 24 p)) < 8 then rdE T (vrb (ltT T p (rnM T 97 122 24 p))) (rdA T (agT (vrb (ltT T p (rnM T 97 122 24 p)))) 0 (p + rnM T 97 122 24 p) (fun _ => []) (fun _ => 0)) else .error p
theorem ltT_s {T : List Nat} {p n : Nat} : ltT T p (n + 1) = ltT T p n ++ [T.getD (p + n) 0] := by
  unfold ltT
  rw [List.range'_concat, List.map_append]
  simp
theorem ltT_len {T : List Nat} {p n : Nat} : (ltT T p n).length = n := by
  unfold ltT
  simp
/-- what the reader's arrays hold -/
def pAr (o : gO) (G : hG) (wa na : Nat) (A : List Nat) (k : Nat) (w : Nat → Wd) (n : Nat → Nat) : Prop := ∀ j, j < k → (A.getD j 0 = 119 → ∃ y, hR G wa j = some y ∧ pW o G y (w j)) ∧ (A.getD j 0 ≠ 119 → hI G na j = nI (n j))
theorem agT_len : ∀ v, v < 8 → (agT v).length ≤ 2 := by decide
section P51
variable {o : gO} {G : hG} {xa ra p wa na : Nat} {T : List Nat} {f : Int32}
theorem pAr.fr {M : Nat × Nat → Prop} {o' : gO} {G' : hG} {A : List Nat} {k : Nat} {w : Nat → Wd} {n : Nat → Nat} (har : pAr o G wa na A k w n) (h : pRd o G xa ra T p f wa na) (hf : gFr M o G o' G') (h5 : ¬ M (0, 5)) (h0 : ¬ M (0, 0)) : pAr o' G' wa na A k w n := fun j hj => by
  have s1 := hf.S h.2.2.1.1 h.2.2.1.2.1 h5
  have s2 := hf.S h.2.2.2.1.1 h.2.2.2.1.2.1 h5
  obtain ⟨h1, h2⟩ := har j hj
  refine ⟨fun z => ?_, fun z => s2.I (h2 z)⟩
  obtain ⟨y, y1, y2⟩ := h1 z
  exact ⟨y, s1.R y1, y2.fr hf h0⟩
theorem s_rcEnd {Q : hG → Int32 → Prop} {X : Bool → hG → Prop} (h : pRd o G xa ra T p f wa na)
    (h1 : isA T (p + rnM T 32 32 24 p) 59 59 = true → ∀ G', pRd o G' xa ra T (p + rnM T 32 32 24 p + 1) f wa na → gFr (gOnly (0, 7)) o G o G' → hR G' = hR G → Q G' 1)
    (h0 : isA T (p + rnM T 32 32 24 p) 59 59 = false → ∀ G', pRd o G' xa ra T (p + rnM T 32 32 24 p) f wa na → gFr (gOnly (0, 7)) o G o G' → Q G' 0) :
    hcl G ra 8 ∧ (wX11_spaces (fun G8 z9 => hcl G8 ra 8 ∧ (wX11_isAt (fun G15 z16 => hcl G15 ra 8 ∧ ((z16 = 0 → (wX11_readCommand_b172 Q X z16 ra (hI G15 ra 0) (0 : Int32) G15)) ∧ (¬ z16 = 0 → (wX11_readCommand_b172 Q X z16 ra (hI G15 ra 0) (1 : Int32) G15)))) ra (59 : Int32) (59 : Int32) G8)) ra G) := by
  refine ⟨hclt h.2.1.1, s_spaces h fun G1 r1 f1 hr1 => ?_⟩
  have a1 := r1.2.1.1
  refine ⟨hclt a1, s_isAt (lo := 59) (hi := 59) (by decide) (by decide) r1 ⟨hclt a1, ?_⟩⟩
  unfold wX11_readCommand_b172
  rw [r1.2.1.2.2.2.1]
  by_cases e : isA T (p + rnM T 32 32 24 p) 59 59 = true
  · rw [if_pos e]
    refine br_f (by decide) ⟨a1, ?_⟩
    rw [show nI (p + rnM T 32 32 24 p) + (1 : Int32) = nI (p + rnM T 32 32 24 p + 1) from nI_1 _]
    have mv := r1.mv (p' := p + rnM T 32 32 24 p + 1) (isA_iff.mp e).1
    exact hlet_i ⟨hft1, h1 e _ mv.1 (f1.tr mv.2) hr1⟩
  · rw [if_neg e]
    refine br_t rfl ⟨a1, ?_⟩
    rw [Int32.add_zero]
    have mv := r1.mv (p' := p + rnM T 32 32 24 p) r1.2.2.2.2
    exact hlet_i ⟨hft0, h0 (Bool.eq_false_iff.mpr e) _ mv.1 (f1.tr mv.2)⟩
theorem s_args85 {Q : hG → Int32 → Prop} {X : Bool → hG → Prop} {as v : Nat} (hv : v < 8) : ∀ (A : List Nat) (k p : Nat) (w : Nat → Wd) (n : Nat → Nat) (N : Nat) (o : gO) (G : hG), A = (agT v).drop k → k ≤ (agT v).length → (agT v).length - k < N → pSC o G as (agT v) → pRd o G xa ra T p f wa na → pAr o G wa na (agT v) k w n →
    (∀ p' w' n' v', rdE T v (rdA T A k p w n) = .ok (v', p', w', n') → ∀ o' G', pRd o' G' xa ra T p' f wa na → gFr rdM o G o' G' → pAr o' G' wa na (agT v) (agT v).length w' n' → hR G' ra = hR G ra → Q G' 1) →
    (∀ e, rdE T v (rdA T A k p w n) = .error e → ∀ o' G', pRd o' G' xa ra T e f wa na → gFr rdM o G o' G' → Q G' 0) → wX11_readCommand_l85 Q X N ra as (nI k) G := by
  intro A
  induction A with
  | nil =>
    intro k p w n N o G hA hk hN hs h har hQ1 hQ0
    obtain ⟨N, rfl⟩ : ∃ m, N = m + 1 := ⟨N - 1, by omega⟩
    have hl2 := agT_len v hv
    have hkl : (agT v).length ≤ k := by
      apply Nat.not_lt.mp
      intro z
      rw [List.drop_eq_getElem_cons z] at hA
      cases hA
    show wX11_readCommand_b85 Q X _ _ _ _ _
    unfold wX11_readCommand_b85
    refine ⟨hclf hs.1, s_slen hs (br_t (nI_le hkl (by omega)) ?_)⟩
    refine s_rcEnd h (fun e G1 r1 f1 hr1 => ?_) (fun e G1 r1 f1 => hQ0 _ ?_ o G1 r1 f1.rd)
    · refine hQ1 (p + rnM T 32 32 24 p + 1) w n v ?_ o G1 r1 f1.rd ?_ (by rw [hr1])
      · unfold rdA rdE
        show (if isA T (p + rnM T 32 32 24 p) 59 59 = true then _ else _) = _
        rw [if_pos e]
      · rw [show (agT v).length = k by omega]
        exact har.fr h f1 (fun z => by cases z) (fun z => by cases z)
    · unfold rdA rdE
      show (if isA T (p + rnM T 32 32 24 p) 59 59 = true then _ else _) = _
      rw [if_neg (by rw [e]; decide)]
  | cons c A ih =>
    intro k p w n N o G hA hk hN hs h har hQ1 hQ0
    obtain ⟨N, rfl⟩ : ∃ m, N = m + 1 := ⟨N - 1, by omega⟩
    have hl2 := agT_len v hv
    have hkl : k < (agT v).length := by
      apply Nat.not_le.mp
      intro z
      rw [List.drop_eq_nil_of_le z] at hA
      cases hA
    rw [List.drop_eq_getElem_cons hkl] at hA
    injection hA with hc hA
    have hcg : (agT v).getD k 0 = c := by rw [List.getD_eq_getElem?_getD, List.getElem?_eq_getElem hkl, hc]; rfl
    unfold rdA at hQ1 hQ0
    obtain ⟨S, hS⟩ : ∃ S, S = rnM T 32 32 24 p := ⟨_, rfl⟩
    rw [← hS] at hQ1 hQ0
    show wX11_readCommand_b85 Q X (wX11_readCommand_l85 Q X N) _ _ _ _
    unfold wX11_readCommand_b85 wX11_readCommand_b133 wX11_readCommand_b135
    refine ⟨hclf hs.1, s_slen hs (br_f (nI_ge hkl (by omega)) ⟨hclt h.2.1.1, s_spaces h fun G1 r1 f1 hr1 => ?_⟩)⟩
    rw [← hS] at r1 ⊢
    have n75 : ¬ gOnly (0, 7) (0, 5) := fun z => by cases z
    have n70 : ¬ gOnly (0, 7) (0, 0) := fun z => by cases z
    have har1 := har.fr h f1 n75 n70
    have hs1 := hs.fr f1 n70
    by_cases e0 : S = 0
    · rw [if_neg (by omega)]
      rw [if_pos e0] at hQ0
      rw [e0, Nat.add_zero] at r1
      exact br_t rfl (hQ0 p rfl o G1 r1 f1.rd)
    · rw [if_pos (by omega)]
      rw [if_neg e0] at hQ0 hQ1
      refine br_f (by decide) ⟨hclf hs1.1, s_scharAt hs1 hkl ?_⟩
      rw [hcg]
      have hcb : c < 128 := by
        rw [hc]
        exact hs.2.2.2.2.2 _ (List.getElem_mem hkl)
      by_cases ec : c = 119
      · rw [if_pos ec] at hQ0 hQ1
        have nz : ¬ (1 : Int32) = 0 := by decide
        refine br_t ((nI_eq (b := 119) (by omega) (by decide)).mpr ec) ⟨hclt r1.2.1.1, s_readWord (by omega) r1 (fun eg o2 G2 y r2 f2 q1 q2 q3 q4 q5 => br_f nz ?_) (fun eg G2 r2 f2 _ => br_t rfl ?_)⟩
        · rw [if_pos eg] at hQ0 hQ1
          rw [show nI k + (1 : Int32) = nI (k + 1) from nI_1 _]
          have fT : gFr rdM o G o2 G2 := f1.rd.tr f2
          refine ih (k + 1) _ _ _ N o2 G2 hA hkl (by omega) (hs1.fr f2 rdM_0) r2 (fun j hj => ?_) (fun p' w' n' v' e o3 G3 t1 t2 t3 t4 => hQ1 p' w' n' v' e o3 G3 t1 (fT.tr t2) t3 (by rw [t4, q4, hr1])) (fun e he o3 G3 t1 t2 => hQ0 e he o3 G3 t1 (fT.tr t2))
          by_cases ej : j = k
          · rw [ej]
            refine ⟨fun _ => ⟨y, q1, ?_⟩, fun z => absurd (hcg.trans ec) z⟩
            unfold upF
            rw [if_pos rfl]
            exact q2
          · obtain ⟨h1, h2⟩ := har1 j (by omega)
            refine ⟨fun z => ?_, fun z => ?_⟩
            · obtain ⟨y', y1, y2⟩ := h1 z
              refine ⟨y', by rw [q3 j ej]; exact y1, ?_⟩
              unfold upF
              rw [if_neg ej]
              exact y2.fr f2 rdM_0
            · rw [q5]
              exact h2 z
        · rw [if_neg (by rw [eg]; decide)] at hQ0
          exact hQ0 _ rfl o G2 r2 (f1.rd.tr f2)
      · rw [if_neg ec] at hQ0 hQ1
        have nz : ¬ (1 : Int32) = 0 := by decide
        refine br_f (fun z => ec ((nI_eq (b := 119) (by omega) (by decide)).mp z)) ⟨hclt r1.2.1.1, s_readNumber (by omega) r1 fun G2 r2 f2 q1 q2 q3 => ?_⟩
        have fT : gFr rdM o G o G2 := f1.rd.tr f2
        by_cases eg : goodN T (p + S) = true
        · rw [if_pos eg] at hQ0 hQ1
          have eg2 : 0 < rnM T 48 57 3 (p + S) ∧ ¬ isA T (p + S + rnM T 48 57 3 (p + S)) 48 57 = true := by
            unfold goodN at eg
            simp at eg
            exact ⟨eg.1, by rw [eg.2]; decide⟩
          rw [if_pos eg2]
          refine br_f nz ?_
          rw [show nI k + (1 : Int32) = nI (k + 1) from nI_1 _]
          refine ih (k + 1) _ _ _ N o G2 hA hkl (by omega) (hs1.fr f2 rdM_0) r2 (fun j hj => ?_) (fun p' w' n' v' e o3 G3 t1 t2 t3 t4 => hQ1 p' w' n' v' e o3 G3 t1 (fT.tr t2) t3 (by rw [t4, q3, hr1])) (fun e he o3 G3 t1 t2 => hQ0 e he o3 G3 t1 (fT.tr t2))
          by_cases ej : j = k
          · rw [ej]
            refine ⟨fun z => absurd (hcg.symm.trans z) ec, fun z => ?_⟩
            unfold upF
            rw [if_pos rfl]
            exact q1
          · obtain ⟨h1, h2⟩ := har1 j (by omega)
            refine ⟨fun z => ?_, fun z => ?_⟩
            · obtain ⟨y', y1, y2⟩ := h1 z
              exact ⟨y', by rw [q3]; exact y1, y2.fr f2 rdM_0⟩
            · unfold upF
              rw [if_neg ej, q2 j ej]
              exact h2 z
        · rw [if_neg eg] at hQ0
          have eg2 : ¬ (0 < rnM T 48 57 3 (p + S) ∧ ¬ isA T (p + S + rnM T 48 57 3 (p + S)) 48 57 = true) := fun z => eg (by
            unfold goodN
            rw [decide_eq_true z.1, Bool.eq_false_iff.mpr z.2]
            rfl)
          rw [if_neg eg2]
          exact br_t rfl (hQ0 _ rfl o G2 r2 fT)
end P51
