/-! ===== plain law 43: public methods that ask ===== -/
set_option maxRecDepth 100000
theorem nn32 {v : Int32} (h : ¬ v < 0) : v = nI v.toNatClampNeg ∧ v.toNatClampNeg < 2 ^ 31 := by
  have h0 : 0 ≤ v.toInt := by
    have := Int32.not_lt.mp h
    exact Int32.le_iff_toInt_le.mp this
  have e : v.toNatClampNeg = v.toInt.toNat := rfl
  have hlt := Int32.toInt_lt v
  have h1 : v.toNatClampNeg < 2 ^ 31 := by
    rw [e]
    omega
  refine ⟨?_, h1⟩
  apply Int32.toInt_inj.mp
  rw [nI_toInt h1, e]
  omega
section P43
variable {o : gO} {G : hG} {xa c : Nat} {st : Ste} {l : Wd}
theorem pX.q (h : pX o G xa c st) : ∃ a b x, 4 ≤ b ∧ hC G xa = some (1, true) ∧ hR G xa 0 = some a ∧ pBr o G b a x st.1 ∧ gB c st.1 ∧ kC o G ∧ ∀ o' G', pBr o' G' b a x st.1 → gFr (qM b) o G o' G' → pX o' G' xa c st ∧ gFr xM o G o' G' := by
  obtain ⟨a, sl, ta, b, ids, L, h⟩ := h
  have hh := h
  obtain ⟨⟨a1, a2, a3, -⟩, -, -, -, ⟨⟨x, e1⟩, e2⟩, f, g⟩ := h
  have h4 := f.2 b (List.mem_cons_self ..)
  exact ⟨a, b, x, h4, a1, a3, e1, e2, g, fun o' G' k1 k2 => ⟨⟨a, sl, ta, b, ids, L, hh.cur k2 ⟨x, k1⟩ e2⟩, k2.x h4⟩⟩
theorem s_what {Q : hG → Prop} {X : Bool → hG → Prop} {v : Int32} {n : Nat} (hn : 0 < n) (hn2 : n < 100) (h0 : rgN 0 (n - 1) v = none → X false G) (h1 : ∀ k, rgN 0 (n - 1) v = some k → k < n → v = nI k → Q G) : wX1_requireWhat Q X v (nI n) G := by
  unfold wX1_requireWhat
  rw [show (1 : Int32) = nI 1 from rfl, nI_sub (by omega)]
  refine s_rng (lo := 0) (hi := n - 1) rfl (i64_nI (by omega)) (by omega) (by decide) (fun k k0 k1 k2 => s_rq (fun z => absurd z (by decide)) fun _ => h1 k ((rgN_some (by omega)).mpr ⟨k0, k1, k2⟩) (by omega) k2) (fun z => s_rq (fun _ => h0 ?_) (fun y => absurd rfl y))
  cases e : rgN 0 (n - 1) v with
  | none => rfl
  | some k => exact absurd ⟨k, (rgN_some (by omega)).mp e⟩ z
def xWord (st : Ste) (w : Int64) (n : Int32) : Except Bool (Ste × Int32) := match pz w with
  | none => .error false
  | some l => match rgN 0 6 n with
    | none => .error false
    | some k => .ok (st, wVal st.1 l k)
theorem s_xword {Q : hG → Int32 → Prop} {X : Bool → hG → Prop} {w : Int64} {n : Int32} (h : pX o G xa c st) (hF : fin o G xa c st (xWord st w n) Q X) : wX1_word Q X xa w n G := by
  unfold wX1_word
  unfold xWord at hF
  refine s_newL (o := o) (fun z o' G' f => ?_) (fun l q o' G' hl hq f => ?_)
  · rw [z] at hF
    exact (hF.mv (f _)).er rfl (h.f0 (f _))
  · rw [hl] at hF
    have h1 := h.f0 (f _)
    have hF1 := hF.mv (f _)
    refine s_what (n := 7) (by decide) (by decide) (fun z => hF1.er ?_ h1) (fun k z k7 kv => ?_)
    · show (match rgN 0 6 n with | none => _ | some k => _) = _
      rw [show rgN 0 6 n = none from z]
    · obtain ⟨a, b, x, h4, a1, a3, e1, e2, g, hq2⟩ := h1.q
      refine ⟨hclt a1, hlet_i ⟨a, a3, hclt e1.1.1, ?_⟩⟩
      rw [kv]
      refine s_wordValue (by omega) (by omega) e1 hq fun o2 G2 k1 k2 _ => ?_
      obtain ⟨k3, k4⟩ := hq2 o2 G2 k1 k2
      refine hF1.ok ?_ k4 k3
      show (match rgN 0 6 n with | none => _ | some k => _) = _
      rw [show rgN 0 6 n = some k from z]
def xListed (st : Ste) (nm i : Int32) : Except Bool (Ste × Int64) := if i < 0 then .error false else .ok (st, lstA (if nm = 0 then keys st.1 else bN st.1) i.toNatClampNeg)
theorem s_xlisted {Q : hG → Int64 → Prop} {X : Bool → hG → Prop} {nm i : Int32} (h : pX o G xa c st) (hF : fin o G xa c st (xListed st nm i) Q X) : wX1_listed Q X xa nm i G := by
  unfold wX1_listed wX1_listed_b9
  unfold xListed at hF
  refine br_c (fun z => s_rq (fun _ => hF.er (if_pos z) h) (fun y => absurd rfl y)) (fun z => s_rq (fun y => absurd y (by decide)) fun _ => ?_)
  rw [if_neg z] at hF
  obtain ⟨n1, n2⟩ := nn32 z
  obtain ⟨a, b, x, h4, a1, a3, e1, e2, g, hq2⟩ := h.q
  refine ⟨hclt a1, hlet_i (br_c (fun e => ⟨hclt a1, hlet_i ⟨a, a3, hclt e1.1.1, hlet_i ⟨x 0, e1.1.2.2 0 (by decide), e1.c0, ?_⟩⟩⟩) (fun e => ⟨hclt a1, hlet_i ⟨a, a3, hclt e1.1.1, hlet_i ⟨a, a3, hclt e1.1.1, ?_⟩⟩⟩))⟩
  · rw [if_pos e] at hF
    refine s_wks e1 (by omega) fun o1 G1 y k1 k2 k3 => ⟨a, a3, hclt k1.1.1, ?_⟩
    rw [n1]
    refine s_listedKS n2 (by omega) k1 k2 fun o2 G2 r1 r2 => ?_
    obtain ⟨k4, k5⟩ := hq2 o2 G2 r1 (k3.q.tr r2.t)
    exact hF.ok rfl k5 k4
  · rw [if_neg e] at hF
    rw [e1.1.2.2 1 (by decide), n1]
    refine s_listedTS n2 (by omega) e1 fun o2 G2 r1 r2 => ?_
    obtain ⟨k4, k5⟩ := hq2 o2 G2 r1 r2
    exact hF.ok rfl k5 k4
def entOk (i w : Int32) : Bool := !decide (i < 0) && (rgN 0 2 w).isSome
theorem s_entry {Q : hG → Prop} {X : Bool → hG → Prop} {v w : Int32} (h0 : entOk v w = false → X false G) (h1 : entOk v w = true → v = nI v.toNatClampNeg → v.toNatClampNeg < 2 ^ 31 → Q G) : wX1_requireEntry Q X v w G := by
  unfold wX1_requireEntry wX1_requireEntry_b20 wX1_requireEntry_b21
  refine br_c (fun z => s_rq (fun _ => h0 ?_) (fun y => absurd rfl y)) (fun z => ?_)
  · unfold entOk
    rw [decide_eq_true z]
    rfl
  · refine s_rng (lo := 0) (hi := 2) rfl rfl (by decide) (by decide) (fun n n0 n1 n2 => br_f (by decide) (s_rq (fun y => absurd y (by decide)) fun _ => h1 ?_ (nn32 z).1 (nn32 z).2)) (fun y => br_t rfl (s_rq (fun _ => h0 ?_) (fun y => absurd rfl y)))
    · unfold entOk
      rw [decide_eq_false z, (rgN_some (by decide)).mpr ⟨n0, n1, n2⟩]
      rfl
    · unfold entOk
      cases e : rgN 0 2 w with
      | none => simp
      | some k => exact absurd ⟨k, (rgN_some (by decide)).mp e⟩ y
def xPair (st : Ste) (i w : Int32) : Except Bool (Ste × Int64) := if entOk i w then .ok (st, prA (bP st.1) i.toNatClampNeg w) else .error false
theorem s_xpair {Q : hG → Int64 → Prop} {X : Bool → hG → Prop} {i w : Int32} (h : pX o G xa c st) (hF : fin o G xa c st (xPair st i w) Q X) : wX1_pair Q X xa i w G := by
  unfold wX1_pair
  unfold xPair at hF
  refine s_entry (fun z => hF.er (if_neg (by rw [z]; decide)) h) (fun z n1 n2 => ?_)
  rw [if_pos z] at hF
  obtain ⟨a, b, x, h4, a1, a3, e1, e2, g, hq2⟩ := h.q
  refine ⟨hclt a1, hlet_i ⟨a, a3, hclt e1.1.1, ?_⟩⟩
  rw [n1]
  exact s_pairValue n2 e1 (hF.ok rfl gFr.rf h)
def xLogged (st : Ste) (i w : Int32) : Except Bool (Ste × Int64) := if entOk i w then .ok (st, prA (bL st.1).reverse i.toNatClampNeg w) else .error false
theorem s_xlogged {Q : hG → Int64 → Prop} {X : Bool → hG → Prop} {i w : Int32} (h : pX o G xa c st) (hF : fin o G xa c st (xLogged st i w) Q X) : wX1_logged Q X xa i w G := by
  unfold wX1_logged
  unfold xLogged at hF
  refine s_entry (fun z => hF.er (if_neg (by rw [z]; decide)) h) (fun z n1 n2 => ?_)
  rw [if_pos z] at hF
  obtain ⟨a, b, x, h4, a1, a3, e1, e2, g, hq2⟩ := h.q
  refine ⟨hclt a1, hlet_i ⟨a, a3, hclt e1.1.1, ?_⟩⟩
  rw [n1]
  exact s_logValue n2 e1 (hF.ok rfl gFr.rf h)
def xKey (st : Ste) (i w : Int32) : Except Bool (Ste × Int32) := match rgN 0 25 i with
  | none => .error false
  | some i => match rgN 0 4 w with
    | none => .error false
    | some k => .ok (st, kVal st.1 i k)
theorem s_xkey {Q : hG → Int32 → Prop} {X : Bool → hG → Prop} {i w : Int32} (h : pX o G xa c st) (hF : fin o G xa c st (xKey st i w) Q X) : wX1_key Q X xa i w G := by
  unfold wX1_key wX1_key_b28 wX1_key_b29
  unfold xKey at hF
  refine s_rng (lo := 0) (hi := 25) rfl rfl (by decide) (by decide) (fun n n0 n1 n2 => br_f (by decide) ?_) (fun z => br_t rfl (s_rq (fun _ => hF.er ?_ h) (fun y => absurd rfl y)))
  · rw [(rgN_some (by decide)).mpr ⟨n0, n1, n2⟩] at hF
    refine s_rng (lo := 0) (hi := 4) rfl rfl (by decide) (by decide) (fun k k0 k1 k2 => br_f (by decide) ?_) (fun z => br_t rfl (s_rq (fun _ => hF.er ?_ h) (fun y => absurd rfl y)))
    · refine s_rq (fun y => absurd y (by decide)) fun _ => ?_
      obtain ⟨a, b, x, h4, a1, a3, e1, e2, g, hq2⟩ := h.q
      refine ⟨hclt a1, hlet_i ⟨a, a3, hclt e1.1.1, ?_⟩⟩
      rw [n2, show (97 : Int32) + nI n = nI (97 + n) from nI_add 97 n, (sb_byte (97 + n) (by omega)).2.1, k2]
      refine s_keyValue (by omega) k1 e1 g.2.2 (hF.ok ?_ gFr.rf h)
      show (match rgN 0 4 w with | none => _ | some k => _) = _
      rw [(rgN_some (by decide)).mpr ⟨k0, k1, k2⟩]
    · show (match rgN 0 4 w with | none => _ | some k => _) = _
      cases e : rgN 0 4 w with
      | none => rfl
      | some k => exact absurd ⟨k, (rgN_some (by decide)).mp e⟩ z
  · cases e : rgN 0 25 i with
    | none => rfl
    | some k => exact absurd ⟨k, (rgN_some (by decide)).mp e⟩ z
def whV (st : Ste) (k : Nat) : Int32 := if k = 11 then nI st.2.2.length else bVal st.1 (nI k)
theorem s_wholeOf {Q : hG → Int32 → Prop} {k : Nat} (hk : k < 12) (h : pX o G xa c st) (hQ : ∀ o' G', pX o' G' xa c st → gFr xM o G o' G' → Q G' (whV st k)) : wX1_wholeOf Q xa (nI k) G := by
  have hxl : hI G xa 3 = nI st.2.2.length := by
    obtain ⟨a, sl, ta, b, ids, L, h⟩ := h
    exact h.1.2.2.2.2.2
  obtain ⟨a, b, x, h4, a1, a3, e1, e2, g, hq2⟩ := h.q
  unfold wX1_wholeOf wX1_wholeOf_b21
  unfold whV at hQ
  refine br_c (fun z => ⟨hclt a1, ?_⟩) (fun z => ⟨hclt a1, hlet_i ⟨a, a3, hclt e1.1.1, ?_⟩⟩)
  · have : k = 11 := (nI_eq (b := 11) (by omega) (by decide)).mp z
    rw [if_pos this] at hQ
    rw [hxl]
    exact hQ o G h gFr.rf
  · have : k ≠ 11 := fun y => z (by rw [y]; rfl)
    rw [if_neg this] at hQ
    exact s_value (by omega) (by omega) e1 fun o2 G2 k1 k2 => hQ o2 G2 (hq2 o2 G2 k1 k2).1 (hq2 o2 G2 k1 k2).2
def xWhole (st : Ste) (n : Int32) : Except Bool (Ste × Int32) := match rgN 0 11 n with
  | none => .error false
  | some k => .ok (st, whV st k)
theorem s_xwhole {Q : hG → Int32 → Prop} {X : Bool → hG → Prop} {n : Int32} (h : pX o G xa c st) (hF : fin o G xa c st (xWhole st n) Q X) : wX1_whole Q X xa n G := by
  unfold wX1_whole
  unfold xWhole at hF
  refine s_what (n := 12) (by decide) (by decide) (fun z => hF.er ?_ h) (fun k z k7 kv => ?_)
  · rw [show rgN 0 11 n = none from z]
  · obtain ⟨a, b, x, h4, a1, a3, e1, e2, g, hq2⟩ := h.q
    refine ⟨hclt a1, ?_⟩
    rw [kv]
    refine s_wholeOf k7 h fun o2 G2 k1 k2 => hF.ok ?_ k2 k1
    rw [show rgN 0 11 n = some k from z]
/-! with two words -/
def xTwo (st : Ste) (w v : Int64) (f : Wd → Wd → Int32) : Except Bool (Ste × Int32) := match pz w with
  | none => .error false
  | some l => match pz v with
    | none => .error false
    | some m => .ok (st, f l m)
theorem s_two {OP : Nat → Nat → Nat → hG → Prop} {Q : hG → Int32 → Prop} {X : Bool → hG → Prop} {w v : Int64} {f : Wd → Wd → Int32} (h : pX o G xa c st) (hF : fin o G xa c st (xTwo st w v f) Q X) (hOP : ∀ a b x o' G' p q l m, 4 ≤ b → pBr o' G' b a x st.1 → gB c st.1 → kC o' G' → pW o' G' p l → pW o' G' q m → (∀ o'' G'', pBr o'' G'' b a x st.1 → gFr (qM b) o' G' o'' G'' → Q G'' (f l m)) → OP a p q G') : hcl G xa 1 ∧ hlet (hR G xa 0) fun y2 => ∀ q3, hfr G q3 → hlet (hnw G q3 4 0) fun G4 => wX5_init (fun G8 => ∀ q12, hfr G8 q12 → hlet (hnw G8 q12 4 0) fun G13 => wX5_init (fun G17 => ∃ a21, y2 = some a21 ∧ (hcl G17 a21 2 ∧ (OP a21 q3 q12 G17))) X q12 v G13) X q3 w G4 := by
  unfold xTwo at hF
  obtain ⟨a, b, x, h4, a1, a3, e1, e2, g, hq2⟩ := h.q
  refine ⟨hclt a1, hlet_i ?_⟩
  rw [a3]
  refine s_newL (o := o) (fun z o' G' f => ?_) (fun l q o' G' hl hq f => ?_)
  · rw [z] at hF
    exact (hF.mv (f _)).er rfl (h.f0 (f _))
  · rw [hl] at hF
    refine s_newL (o := o') (fun z o2 G2 f2 => ?_) (fun m p o2 G2 hm hp f2 => ?_)
    · rw [z] at hF
      exact ((hF.mv (f _)).mv (f2 _)).er rfl ((h.f0 (f _)).f0 (f2 _))
    · rw [hm] at hF
      have n0 : ∀ v, ¬ gNo v := fun _ z => z
      have b2 := (e1.fr (f gNo) (fun _ => n0 _) (n0 _)).fr (f2 gNo) (fun _ => n0 _) (n0 _)
      refine ⟨a, rfl, hclt b2.1.1, hOP a b x o2 G2 q p l m h4 b2 e2 ((g.fr (f gNo) (n0 _)).fr (f2 gNo) (n0 _)) (hq.fr (f2 gNo) (n0 _)) hp fun o3 G3 k1 k2 => ?_⟩
      obtain ⟨k3, k4⟩ := hq2 o3 G3 k1 (((f _).tr (f2 _)).tr k2)
      exact hF.ok rfl k4 k3
def xDistance (st : Ste) (w v : Int64) : Except Bool (Ste × Int32) := xTwo st w v fun l m => nI (dist (bK st.1) l m)
theorem s_xdistance {Q : hG → Int32 → Prop} {X : Bool → hG → Prop} {w v : Int64} (h : pX o G xa c st) (hF : fin o G xa c st (xDistance st w v) Q X) : wX1_distance Q X xa w v G := by
  unfold wX1_distance
  refine s_two (OP := fun a p q G' => wX2_distance (fun G22 z23 => Q G22 z23) a p q G') h hF fun a b x o' G' p q l m h4 e1 e2 g hp hq hk => ?_
  exact s_bdist e1 g.2.2 hp hq fun o2 G2 f2 => hk o2 G2 (e1.fr (f2 gNo) (fun _ z => z) (fun z => z)) (f2 _)
def xReason (st : Ste) (w v : Int64) : Except Bool (Ste × Int32) := xTwo st w v fun l m => nI (rsn st.1 l m)
theorem s_xreason {Q : hG → Int32 → Prop} {X : Bool → hG → Prop} {w v : Int64} (h : pX o G xa c st) (hF : fin o G xa c st (xReason st w v) Q X) : wX1_reason Q X xa w v G := by
  unfold wX1_reason
  refine s_two (OP := fun a p q G' => wX2_reason (fun G22 z23 => Q G22 z23) a p q G') h hF fun a b x o' G' p q l m h4 e1 e2 g hp hq hk => ?_
  exact s_reason e1 g.2.2 hp hq fun o2 G2 f2 => hk o2 G2 (e1.fr (f2 gNo) (fun _ z => z) (fun z => z)) (f2 _)
def xBest (st : Ste) (w v : Int64) : Except Bool (Ste × Int32) := xTwo st w v fun l m => bdr st.1 l m
theorem s_xbest {Q : hG → Int32 → Prop} {X : Bool → hG → Prop} {w v : Int64} (h : pX o G xa c st) (hF : fin o G xa c st (xBest st w v) Q X) : wX1_bestDropping Q X xa w v G := by
  unfold wX1_bestDropping
  refine s_two (OP := fun a p q G' => wX2_bestDropping (fun G22 z23 => Q G22 z23) a p q G') h hF fun a b x o' G' p q l m h4 e1 e2 g hp hq hk => ?_
  exact s_bestDropping (by omega) e1 g.2.2 hp hq hk
/-! with one word -/
def xOne (st : Ste) (w : Int64) (f : Wd → Int32) : Except Bool (Ste × Int32) := match pz w with
  | none => .error false
  | some l => .ok (st, f l)
theorem s_one {OP : Nat → Nat → hG → Prop} {Q : hG → Int32 → Prop} {X : Bool → hG → Prop} {w : Int64} {f : Wd → Int32} (h : pX o G xa c st) (hF : fin o G xa c st (xOne st w f) Q X) (hOP : ∀ a b x o' G' p l, 4 ≤ b → pBr o' G' b a x st.1 → gB c st.1 → kC o' G' → pW o' G' p l → (∀ o'' G'', pBr o'' G'' b a x st.1 → gFr (qM b) o' G' o'' G'' → Q G'' (f l)) → OP a p G') : hcl G xa 1 ∧ hlet (hR G xa 0) fun y2 => ∀ q3, hfr G q3 → hlet (hnw G q3 4 0) fun G4 => wX5_init (fun G8 => ∃ a12, y2 = some a12 ∧ (hcl G8 a12 2 ∧ (OP a12 q3 G8))) X q3 w G4 := by
  unfold xOne at hF
  obtain ⟨a, b, x, h4, a1, a3, e1, e2, g, hq2⟩ := h.q
  refine ⟨hclt a1, hlet_i ?_⟩
  rw [a3]
  refine s_newL (o := o) (fun z o' G' f => ?_) (fun l q o' G' hl hq f => ?_)
  · rw [z] at hF
    exact (hF.mv (f _)).er rfl (h.f0 (f _))
  · rw [hl] at hF
    have n0 : ∀ v, ¬ gNo v := fun _ z => z
    have b2 := e1.fr (f gNo) (fun _ => n0 _) (n0 _)
    refine ⟨a, rfl, hclt b2.1.1, hOP a b x o' G' q l h4 b2 e2 (g.fr (f gNo) (n0 _)) hq fun o3 G3 k1 k2 => ?_⟩
    obtain ⟨k3, k4⟩ := hq2 o3 G3 k1 ((f _).tr k2)
    exact hF.ok rfl k4 k3
def xCaseOf (st : Ste) (w : Int64) : Except Bool (Ste × Int32) := xOne st w fun l => nI (cse st.1 l)
theorem s_xcaseOf {Q : hG → Int32 → Prop} {X : Bool → hG → Prop} {w : Int64} (h : pX o G xa c st) (hF : fin o G xa c st (xCaseOf st w) Q X) : wX1_caseOf Q X xa w G := by
  unfold wX1_caseOf
  refine s_one (OP := fun a p G' => wX2_caseOf (fun G22 z23 => Q G22 z23) a p G') h hF fun a b x o' G' p l h4 e1 e2 g hp hk => ?_
  exact s_bcaseOf (by omega) e2 e1 g.2.2 hp hk
def xRisk (st : Ste) (w : Int64) : Except Bool (Ste × Int32) := xOne st w fun l => nI (rsk st.1 l)
theorem s_xrisk {Q : hG → Int32 → Prop} {X : Bool → hG → Prop} {w : Int64} (h : pX o G xa c st) (hF : fin o G xa c st (xRisk st w) Q X) : wX1_risk Q X xa w G := by
  unfold wX1_risk
  refine s_one (OP := fun a p G' => wX2_risk (fun G22 z23 => Q G22 z23) a p G') h hF fun a b x o' G' p l h4 e1 e2 g hp hk => ?_
  exact s_risk (by omega) e2 e1 g.2.2 hp fun o2 G2 k1 k2 _ => hk o2 G2 k1 k2
def xSuggestion (st : Ste) (w : Int64) (r : Int32) : Except Bool (Ste × Int64) := match pz w with
  | none => .error false
  | some l => if r < 0 then .error false else .ok (st, sgA (sgT st.1 l) r.toNatClampNeg)
theorem s_xsuggestion {Q : hG → Int64 → Prop} {X : Bool → hG → Prop} {w : Int64} {r : Int32} (h : pX o G xa c st) (hF : fin o G xa c st (xSuggestion st w r) Q X) : wX1_suggestion Q X xa w r G := by
  unfold wX1_suggestion wX1_suggestion_b19
  unfold xSuggestion at hF
  refine s_newL (o := o) (fun z o' G' f => ?_) (fun l q o' G' hl hq f => ?_)
  · rw [z] at hF
    exact (hF.mv (f _)).er rfl (h.f0 (f _))
  · rw [hl] at hF
    have h1 := h.f0 (f _)
    have hF1 := hF.mv (f _)
    refine br_c (fun z => s_rq (fun _ => hF1.er (if_pos z) h1) (fun y => absurd rfl y)) (fun z => s_rq (fun y => absurd y (by decide)) fun _ => ?_)
    obtain ⟨n1, n2⟩ := nn32 z
    obtain ⟨a, b, x, h4, a1, a3, e1, e2, g, hq2⟩ := h1.q
    refine ⟨hclt a1, hlet_i ⟨a, a3, hclt e1.1.1, ?_⟩⟩
    rw [n1]
    refine s_bsuggestion n2 (by omega) e2 e1 g.2.2 hq fun o2 G2 k1 k2 => ?_
    obtain ⟨k3, k4⟩ := hq2 o2 G2 k1 k2
    exact hF1.ok (if_neg z) k4 k3
theorem s_xriskiest {Q : hG → Int64 → Prop} (h : pX o G xa c st) (hQ : ∀ o' G', pX o' G' xa c st → gFr xM o G o' G' → Q G' (rst st.1)) : wX1_riskiest Q xa G := by
  obtain ⟨a, b, x, h4, a1, a3, e1, e2, g, hq2⟩ := h.q
  unfold wX1_riskiest
  refine ⟨hclt a1, hlet_i ⟨a, a3, hclt e1.1.1, s_riskiest (by omega) e2 e1 g.2.2 fun o2 G2 k1 k2 => ?_⟩⟩
  obtain ⟨k3, k4⟩ := hq2 o2 G2 k1 k2
  exact hQ o2 G2 k3 k4
end P43
