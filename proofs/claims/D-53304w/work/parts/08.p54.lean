/-! ===== plain law 54: carryOut ===== -/
set_option maxRecDepth 100000
def cO (B : Bk) (v : Nat) (w : Nat → Wd) (n : Nat → Nat) : Option Bk :=
  if v = 0 then (if 1 ≤ n 1 ∧ n 1 ≤ 999 ∧ (w 0 ∈ keys B ∨ (bW B).length < 20) then some (oW B (insA (w 0) (n 1) (bW B))) else none)
  else if v = 1 then (if n 1 ≤ 2 then some (oK B (upS (bK B) ((w 0).getD 0 0 - 1) (nI (n 1)))) else none)
  else if v = 2 then some (alw B (w 0) (w 1)).1
  else if v = 3 then (if okEb (nI (n 0)) (nI (n 1)) then some (oE B (upS (bE B) (n 0) (nI (n 1)))) else none)
  else if v = 4 then some (oW B (rmA (w 0) (bW B)))
  else if v = 5 then (if w 0 ∈ bN B ∨ (bN B).length < 10 then some (oN B (insS (w 0) (bN B))) else none)
  else if v = 6 then some (crt B (w 0)).1
  else (tkb B).map Prod.fst
section P54
variable {o : gO} {G : hG} {xa ra p wa na b a c : Nat} {T : List Nat} {f : Int32} {x : Nat → Nat} {B : Bk}
theorem s_co186 {Q : hG → Prop} {X : Bool → hG → Prop} {v : Nat} {w : Nat → Wd} {n : Nat → Nat} (hv : v < 8) (hb : b ≠ 0) (hg : gB c B) (h : pBr o G b a x B) (hkc : kC o G) (hwa : hC G wa = some (104, true) ∧ hN G wa = 2) (hna : hC G na = some (100, true) ∧ hN G na = 2) (har : pAr o G wa na (agT v) (agT v).length w n) (hn : ∀ j, n j < 1000)
    (hQ : ∀ B', cO B v w n = some B' → gB (c + 1) B' → ∀ o' G', pBr o' G' b a x B' → gFr (qM b) o G o' G' → Q G') (hX : cO B v w n = none → ∀ k, X k G) : wX1_carryOut_b186 Q X a wa na (nI v) G := by
  have e0 : Int32.toNatClampNeg (0 : Int32) = 0 := rfl
  have e1 : Int32.toNatClampNeg (1 : Int32) = 1 := rfl
  have v0 : ∀ {N : Nat}, N = 2 → vp_in (0 : Int32) N := fun e => by rw [e]; exact vp_in_nI (n := 0) (by decide) (by decide)
  have v1 : ∀ {N : Nat}, N = 2 → vp_in (1 : Int32) N := fun e => by rw [e]; exact vp_in_nI (n := 1) (by decide) (by decide)
  have hb1 := h.1.1
  have g1 := fun {B'} (z : gB c B') => z.mono (Nat.le_succ c)
  have n0 := hn 0
  have n1 := hn 1
  unfold wX1_carryOut_b186 wX1_carryOut_b333
  rcases (show v = 0 ∨ v = 1 ∨ v = 2 ∨ v = 3 ∨ v = 4 ∨ v = 5 ∨ v = 6 ∨ v = 7 by omega) with e | e | e | e | e | e | e | e <;> subst e
  all_goals refine ⟨fun z => ?_, fun z => ?_, fun z => ?_, fun z => ?_, fun z => ?_, fun z => ?_, fun z => ?_, fun z => ?_⟩
  all_goals first
    | exact absurd z (by decide)
    | exact absurd rfl z.1
    | exact absurd rfl z.2.1
    | exact absurd rfl z.2.2.1
    | exact absurd rfl z.2.2.2.1
    | exact absurd rfl z.2.2.2.2.1
    | exact absurd rfl z.2.2.2.2.2.1
    | exact absurd rfl z.2.2.2.2.2.2
    | skip
  · rw [show cO B 0 w n = (if 1 ≤ n 1 ∧ n 1 ≤ 999 ∧ (w 0 ∈ keys B ∨ (bW B).length < 20) then some (oW B (insA (w 0) (n 1) (bW B))) else none) from rfl] at hX
    rw [show cO B 0 w n = (if 1 ≤ n 1 ∧ n 1 ≤ 999 ∧ (w 0 ∈ keys B ∨ (bW B).length < 20) then some (oW B (insA (w 0) (n 1) (bW B))) else none) from rfl] at hQ
    obtain ⟨y, y1, y2⟩ := (har 0 (by decide)).1 rfl
    have z1 := (har 1 (by decide)).2 (by decide)
    refine ⟨hclt hwa.1, v0 hwa.2, ?_⟩
    rw [e0, y1]
    refine hlet_i ⟨hclt hna.1, v1 hna.2, y, rfl, hclt hb1, ?_⟩
    rw [e1, z1]
    refine s_baddWord hb hg h hkc.2.1 y2 (fun q => hX (if_neg fun r => q ⟨n 1, r.1, r.2.1, rfl⟩) _) (fun q q1 q2 => hX (if_neg fun r => ?_) _) (fun m m1 m2 m3 m4 o2 G2 r1 r2 => ?_)
    · rcases r.2.2 with r | r
      · exact q1 r
      · omega
    · have em : n 1 = m := (nI_eq (by omega) (by omega)).mp m3
      subst em
      exact hQ _ (if_pos ⟨m1, m2, m4⟩) (g1 (hg.addWord h.pw m1 m2 m4)) o2 G2 r1 r2
  · rw [show cO B 1 w n = (if n 1 ≤ 2 then some (oK B (upS (bK B) ((w 0).getD 0 0 - 1) (nI (n 1)))) else none) from rfl] at hX
    rw [show cO B 1 w n = (if n 1 ≤ 2 then some (oK B (upS (bK B) ((w 0).getD 0 0 - 1) (nI (n 1)))) else none) from rfl] at hQ
    obtain ⟨y, y1, y2⟩ := (har 0 (by decide)).1 rfl
    have z1 := (har 1 (by decide)).2 (by decide)
    refine ⟨hclt hwa.1, v0 hwa.2, ?_⟩
    rw [e0, y1]
    have hl := y2.2.2.2.2
    refine hlet_i ⟨y, rfl, hclt y2.1, s_charAt (k := 0) y2 (by have := hl.1; omega) ⟨hclt hna.1, v1 hna.2, hclt hb1, ?_⟩⟩
    have hd : 1 ≤ (w 0).getD 0 0 ∧ (w 0).getD 0 0 ≤ 26 := by
      rw [List.getD_eq_getElem?_getD, List.getElem?_eq_getElem (by have := hl.1; omega)]
      exact hl.2.2 _ (List.getElem_mem _)
    rw [e1, z1, show (97 : Int32) = nI 97 from rfl, nI_sub (by omega), show 96 + (w 0).getD 0 0 - 97 = (w 0).getD 0 0 - 1 by omega]
    refine s_bsetStick hb h (fun q => hX (if_neg fun r => q ⟨⟨_, Nat.zero_le _, by omega, rfl⟩, n 1, Nat.zero_le _, r, rfl⟩) _) (fun i m i1 m1 i2 m2 G2 r1 r2 => ?_)
    have ei : (w 0).getD 0 0 - 1 = i := (nI_eq (by omega) (by omega)).mp i2
    have em : n 1 = m := (nI_eq (by omega) (by omega)).mp m2
    subst em
    rw [← ei] at r1
    exact hQ _ (if_pos m1) (g1 (hg.setStick m1)) o G2 r1 r2
  · obtain ⟨y, y1, y2⟩ := (har 0 (by decide)).1 rfl
    obtain ⟨u, u1, u2⟩ := (har 1 (by decide)).1 rfl
    refine ⟨hclt hwa.1, v0 hwa.2, ?_⟩
    rw [e0, y1]
    refine hlet_i ⟨hclt hwa.1, v1 hwa.2, ?_⟩
    rw [e1, u1]
    refine hlet_i ⟨y, rfl, u, rfl, hclt hb1, s_ballow hb h y2 u2 fun o2 G2 r1 r2 => ?_⟩
    exact hQ _ rfl (g1 (gB_alw hg)) o2 G2 r1 r2
  · rw [show cO B 3 w n = (if okEb (nI (n 0)) (nI (n 1)) then some (oE B (upS (bE B) (n 0) (nI (n 1)))) else none) from rfl] at hX
    rw [show cO B 3 w n = (if okEb (nI (n 0)) (nI (n 1)) then some (oE B (upS (bE B) (n 0) (nI (n 1)))) else none) from rfl] at hQ
    have z0 := (har 0 (by decide)).2 (by decide)
    have z1 := (har 1 (by decide)).2 (by decide)
    refine ⟨hclt hna.1, v0 hna.2, hclt hna.1, v1 hna.2, hclt hb1, ?_⟩
    rw [e0, e1, z0, z1]
    refine s_bset hb h (fun q => hX (if_neg fun r => q (okEb_iff.mp r)) _) (fun i i1 i2 i3 G2 r1 r2 => ?_)
    have ei : n 0 = i := (nI_eq (by omega) (by omega)).mp i2
    subst ei
    exact hQ _ (if_pos (okEb_iff.mpr i3)) (g1 (hg.set i1 i3)) o G2 r1 r2
  · obtain ⟨y, y1, y2⟩ := (har 0 (by decide)).1 rfl
    refine ⟨hclt hwa.1, v0 hwa.2, ?_⟩
    rw [e0, y1]
    exact hlet_i ⟨y, rfl, hclt hb1, s_bdropWord hb h y2 fun o2 G2 r1 r2 => hQ _ rfl (g1 hg.dropWord) o2 G2 r1 r2⟩
  · rw [show cO B 5 w n = (if w 0 ∈ bN B ∨ (bN B).length < 10 then some (oN B (insS (w 0) (bN B))) else none) from rfl] at hX
    rw [show cO B 5 w n = (if w 0 ∈ bN B ∨ (bN B).length < 10 then some (oN B (insS (w 0) (bN B))) else none) from rfl] at hQ
    obtain ⟨y, y1, y2⟩ := (har 0 (by decide)).1 rfl
    refine ⟨hclt hwa.1, v0 hwa.2, ?_⟩
    rw [e0, y1]
    refine hlet_i ⟨y, rfl, hclt hb1, s_baddName hb hg h y2 (fun q1 q2 => hX (if_neg fun r => ?_) _) (fun m4 o2 G2 r1 r2 => ?_)⟩
    · rcases r with r | r
      · exact q1 r
      · omega
    · exact hQ _ (if_pos m4) (g1 (hg.addName h.2.2.1.pw m4)) o2 G2 r1 r2
  · obtain ⟨y, y1, y2⟩ := (har 0 (by decide)).1 rfl
    refine ⟨hclt hwa.1, v0 hwa.2, ?_⟩
    rw [e0, y1]
    exact hlet_i ⟨y, rfl, hclt hb1, s_bcorrect hb hg h hkc.2.2 hkc.2.1 y2 fun o2 G2 z r1 _ r2 => hQ _ rfl (gB_crt hg h.pw h.2.2.1.pw) o2 G2 r1 r2⟩
  · refine ⟨hclt hb1, s_btakeBack hb hg h (fun q => hX ?_ _) (fun B' m q o2 G2 z r1 _ r2 => hQ B' ?_ (gB_tkb hg h.2.2.1.pw q) o2 G2 r1 r2)⟩
    · show (tkb B).map Prod.fst = none
      rw [q]
      rfl
    · show (tkb B).map Prod.fst = some B'
      rw [q]
      rfl
end P54
