/-! ===== plain law 59: runCommands ===== -/
set_option maxRecDepth 100000
section P59
variable {o : gO} {G : hG} {xa c : Nat} {st : Ste}
def xRun (st : Ste) : Ste × Int32 := match prs st.2.2 5 0 with
  | .error e => (st, -10 - nI e)
  | .ok L => (nxt st (cOn st.1 L 0).1, nI (cOn st.1 L 0).2)
theorem pXr.tx {a sl ta b : Nat} {ids L : List Nat} (h : pXr o G xa c a sl ta b ids L st) (hT : st.2.2.length ≤ 23) : pTx o G xa st.2.2 := by
  obtain ⟨⟨a1, a2, a3, a4, a5, a6⟩, -, ⟨c1, c2, c3, c4⟩, ⟨d1, d2⟩, -⟩ := h
  exact ⟨⟨a1, a2, a6, ta, a5, c1, c2, c3, c4⟩, hT, d2⟩
theorem pXr.fR {o' : gO} {G' : hG} {a sl ta b b' : Nat} {ids L : List Nat} (h : pXr o G xa c a sl ta b ids L st) (hf : gFr (qR b') o G o' G') (hb : b' ∉ b :: ids) (h4 : 4 ≤ b') : pXr o' G' xa c a sl ta b ids L st := by
  have hi := h.2.2.2.2.2.1.2
  refine h.fr hf (fun i z => ?_) (fun k i hk z => ?_) (qR_0 (by omega))
  · rcases z with z | z
    · have : 1 = b' := z
      omega
    · have : 1 = 0 := z.1
      omega
  · rcases z with z | z
    · have z' : k = b' := z
      rw [z'] at hk
      exact hb hk
    · have z' : k = 0 := z.1
      have := hi k hk
      omega
theorem xM_R {b : Nat} (h : 4 ≤ b) {v : Nat × Nat} (z : qR b v) : xM v := by
  rcases z with z | ⟨z1, z2⟩
  · exact ⟨by omega, by omega, fun y => by rw [y] at z; exact absurd z (by show ¬ 0 = b; omega)⟩
  · exact ⟨by omega, by omega, fun y => z2 (by rw [y])⟩
theorem s_xrun {Q : hG → Int32 → Prop} {X : Bool → hG → Prop} (h : pX o G xa c st) (hT : st.2.2.length ≤ 23) (hQ : ∀ o' G', pX o' G' xa (c + 5) (xRun st).1 → gFr xM o G o' G' → Q G' (xRun st).2) : wX1_runCommands Q X xa G := by
  unfold xRun at hQ
  obtain ⟨nb, hnb, hnb2⟩ := new_id ([] : List Nat)
  have tx : ∀ {o G}, gFr tR o G o G → True := fun _ => trivial
  have tRx : ∀ v, tR v → xM v := fun v z => ⟨by have := z.1; omega, by have := z.1; omega, fun y => z.2 (by rw [y])⟩
  have hXt : ∀ {o1 : gO} {G1 : hG} {o2 : gO} {G2 : hG}, pX o1 G1 xa c st → gFr tR o1 G1 o2 G2 → pX o2 G2 xa c st := fun ⟨a, sl, ta, b, ids, L, hx⟩ f => ⟨a, sl, ta, b, ids, L, hx.fr f (fun i z => by have : 1 = 0 := z.1; omega) (fun k i hk z => by have : k = 0 := z.1; have := hx.2.2.2.2.2.1.2 k hk; omega) (fun z => z.2 rfl)⟩
  unfold wX1_runCommands
  intro q hq
  refine hlet_e fun G2 e2 => ?_
  have f2 : ∀ M, gFr M o G (gU o q (0, 7)) G2 := fun M => by rw [e2]; exact gFr.rf.nw _ hq
  have c2 : hC G2 q = some (8, true) := by rw [e2, hC_nw, if_pos rfl]
  have i2 : hI G2 q 0 = 0 := by rw [e2, hI_nw, if_pos rfl]
  have h2 := h.f0 (f2 gNo)
  have h2' := h2
  obtain ⟨a, sl, ta, b, ids, L, hx⟩ := h2'
  refine s_newRd (hx.tx hT) c2 gU_s i2 fun o3 G3 wa na r3 f3 => ?_
  have h3 := hXt h2 f3
  have k3 : kS o3 G3 := by
    obtain ⟨_, _, _, _, _, _, hx3⟩ := h3
    exact hx3.2.2.2.2.2.2.2.2
  have F3 : gFr xM o G o3 G3 := (f2 _).tr (f3.mono tRx)
  refine s_scan 5 0 o3 G3 (by omega) k3 r3 (fun ⟨Lc, hL⟩ o4 G4 p4 r4 f4 => ?_) (fun e he hle o4 G4 p4 r4 f4 => ?_)
  · rw [hL] at hQ
    have h4 := hXt h3 f4
    have F4 : gFr xM o G o4 G4 := F3.tr (f4.mono tRx)
    obtain ⟨a4, sl4, ta4, b4, ids4, L4, hx4⟩ := h4
    have hx4' := hx4
    obtain ⟨⟨y1, y2, y3, -⟩, -, -, -, ⟨⟨x4, e4⟩, g4⟩, -⟩ := hx4'
    unfold wX1_runCommands_b11
    refine br_t rfl ⟨hclt r4.2.1.1, ?_⟩
    rw [r4.2.1.2.2.2.2.1]
    refine br_t rfl ⟨hclt y1, hlet_i ⟨a4, y3, hclt e4.1.1, s_xcopy hx4 fun b' o5 G5 q5 x5 k1 k2 k3 k4 k5 => ?_⟩⟩
    intro q14 hq14
    refine hlet_e fun G6 e6 => ?_
    have f6 : ∀ M, gFr M o5 G5 (gU o5 q14 (0, 7)) G6 := fun M => by rw [e6]; exact gFr.rf.nw _ hq14
    have c6 : hC G6 q14 = some (8, true) := by rw [e6, hC_nw, if_pos rfl]
    have i6 : hI G6 q14 0 = 0 := by rw [e6, hI_nw, if_pos rfl]
    have nn : ∀ v, ¬ gNo v := fun _ z => z
    have k46 := k4.fr (f6 gNo) (fun _ => nn _) (fun _ _ _ => nn _) (nn _)
    have k36 := k3.fr (f6 gNo) (fun _ => nn _) (nn _)
    refine s_newRd (k46.tx hT) c6 gU_s i6 fun o7 G7 wa7 na7 r7 f7 => ?_
    have n0 : ¬ tR (0, 0) := fun z => z.2 rfl
    have k37 := k36.fr f7 (fun i z => by have : b' = 0 := z.1; omega) n0
    have k47 := k46.fR (b' := b') (f7.mono fun _ z => Or.inr z) k2 k1
    refine ⟨q5, rfl, hclt r7.2.1.1, ?_⟩
    unfold wX11_carryOutOn
    refine s_coOn k1 5 Lc 0 0 c st.1 o7 G7 hL (by omega) (by omega) k47.2.2.2.2.1.2 k37 k47.2.2.2.2.2.2 r7 fun o8 G8 s1 s2 s3 => ?_
    have k48 := (k47.fR s3 k2 k1).mono (Nat.le_add_right c 5)
    have F8 : gFr xM o G o8 G8 := (((F4.tr k5).tr (f6 _)).tr (f7.mono tRx)).tr (s3.mono fun _ z => xM_R k1 z)
    exact ⟨hclt k48.1.1, s_become k48 k2 k1 ⟨x5, s1⟩ s2 fun o9 G9 t1 t2 => hQ o9 G9 t1 (F8.tr t2)⟩
  · rw [he] at hQ
    have h23 := r4.1.2.1
    unfold wX1_runCommands_b11
    refine br_t rfl ⟨hclt r4.2.1.1, ?_⟩
    rw [r4.2.1.2.2.2.2.1]
    refine br_f (ix_nm (by omega)) ⟨hclt r4.2.1.1, ?_⟩
    exact hQ o4 G4 ((hXt h3 f4).mono (Nat.le_add_right _ _)) (F3.tr (f4.mono tRx))
end P59
