/-! ===== plain law 36: addWord, dropWord, addName, dropName, setStick, set ===== -/
set_option maxRecDepth 100000
theorem i64_nI {n : Nat} (h : n < 2 ^ 31) : (nI n).toInt64 = lN n := by
  apply Int64.toInt_inj.mp
  rw [Int32.toInt_toInt64, pf_lI (by omega)]
  exact nI_toInt h
theorem rng {lo hi : Nat} {v : Int32} (hh : hi < 2 ^ 31) (hl : lo < 2 ^ 31) : (lN lo ≤ v.toInt64 ∧ v.toInt64 ≤ lN hi) ↔ ∃ n, lo ≤ n ∧ n ≤ hi ∧ v = nI n := by
  rw [Int64.le_iff_toInt_le, Int64.le_iff_toInt_le, Int32.toInt_toInt64, pf_lI (by omega), pf_lI (by omega)]
  constructor
  · rintro ⟨h1, h2⟩
    refine ⟨v.toInt.toNat, by omega, by omega, ?_⟩
    apply Int32.toInt_inj.mp
    rw [nI_toInt (by omega)]
    omega
  · rintro ⟨n, h1, h2, h3⟩
    rw [h3, nI_toInt (by omega)]
    omega
section P36
variable {b a : Nat} {x : Nat → Nat} {B : Bk} {l m : Wd} {c : Nat} {o : gO} {G : hG}
theorem s_rng {Q : hG → Int32 → Prop} {lo hi : Nat} {v : Int32} {L H : Int64} (hL : L = lN lo) (hH : H = lN hi) (hh : hi < 2 ^ 31) (hl : lo < 2 ^ 31) (h1 : ∀ n, lo ≤ n → n ≤ hi → v = nI n → Q G 1) (h0 : ¬ (∃ n, lo ≤ n ∧ n ≤ hi ∧ v = nI n) → Q G 0) : wX1_inRange Q v.toInt64 L H G := by
  rw [hL, hH]
  refine s_inRange (fun p q => ?_) (fun p => h0 fun z => p ((rng hh hl).mpr z))
  obtain ⟨n, n1, n2, n3⟩ := (rng hh hl).mp ⟨p, q⟩
  exact h1 n n1 n2 n3
theorem s_rq {Q : hG → Prop} {X : Bool → hG → Prop} {y : Nat} {z : Int32} (h0 : z = 0 → X false G) (h1 : ¬ z = 0 → Q G) : wX1_requireArgument Q X z y G := ⟨h0, h1⟩
theorem s_rqS {Q : hG → Prop} {X : Bool → hG → Prop} {y : Nat} {z : Int32} (h0 : z = 0 → X true G) (h1 : ¬ z = 0 → Q G) : wX1_requireState Q X z y G := ⟨h0, h1⟩
/-! words with counts -/
theorem insA_mem {α : Type} {key : Wd} {v : α} : ∀ {V : List (Wd × α)} {e : Wd × α}, e ∈ insA key v V → e = (key, v) ∨ e ∈ V
  | [], e, h => Or.inl (List.mem_singleton.mp h)
  | (y, d) :: V, e, h => by
    unfold insA at h
    split at h
    · rcases List.mem_cons.mp h with h | h
      · exact Or.inl h
      · exact Or.inr (List.mem_cons_of_mem _ h)
    · split at h
      · rcases List.mem_cons.mp h with h | h
        · exact Or.inl h
        · exact Or.inr h
      · rcases List.mem_cons.mp h with h | h
        · exact Or.inr (by rw [h]; exact List.mem_cons_self ..)
        · rcases insA_mem h with h | h
          · exact Or.inl h
          · exact Or.inr (List.mem_cons_of_mem _ h)
theorem insA_len {α : Type} {key : Wd} {v : α} : ∀ {V : List (Wd × α)}, (insA key v V).length ≤ V.length + 1
  | [] => Nat.le_refl _
  | (y, d) :: V => by
    unfold insA
    split
    · simp
    · split
      · simp
      · rw [List.length_cons, List.length_cons]
        have := insA_len (key := key) (v := v) (V := V)
        omega
theorem insA_len0 {α : Type} {key : Wd} {v : α} : ∀ {V : List (Wd × α)}, V.Pairwise eLt → key ∈ V.map Prod.fst → (insA key v V).length = V.length
  | [], _, h => by cases h
  | (y, d) :: V, hp, h => by
    obtain ⟨h1, h2⟩ := List.pairwise_cons.mp hp
    unfold insA
    by_cases e : key = y
    · rw [if_pos e]
      rfl
    · rw [if_neg e]
      rw [List.map_cons] at h
      rcases List.mem_cons.mp h with h | h
      · exact absurd h e
      · obtain ⟨n, -, h3⟩ := lkA_mem h
        have h4 : wlt y key = true := h1 _ h3
        rw [if_neg (by rw [wlt_asy h4]; decide), List.length_cons, List.length_cons, insA_len0 h2 h]
theorem insS_len {key : Wd} : ∀ {V : List Wd}, (insS key V).length ≤ V.length + 1
  | [] => Nat.le_refl _
  | y :: V => by
    unfold insS
    split
    · simp
    · split
      · simp
      · rw [List.length_cons, List.length_cons]
        have := insS_len (key := key) (V := V)
        omega
theorem insS_len0 {key : Wd} : ∀ {V : List Wd}, V.Pairwise (fun p q => wlt p q = true) → key ∈ V → (insS key V).length = V.length
  | [], _, h => by cases h
  | y :: V, hp, h => by
    obtain ⟨h1, h2⟩ := List.pairwise_cons.mp hp
    unfold insS
    by_cases e : key = y
    · rw [if_pos e]
      rfl
    · rw [if_neg e]
      rcases List.mem_cons.mp h with h | h
      · exact absurd h e
      · have h4 : wlt y key = true := h1 _ h
        rw [if_neg (by rw [wlt_asy h4]; decide), List.length_cons, List.length_cons, insS_len0 h2 h]
theorem s_wput {Q : hG → Option Nat → Prop} {u : Nat × Nat} {t k y n : Nat} {V : List Wn} (h : pWs o G u t V) (hu : u ≠ (0, 0)) (hl : V.length < 1000) (hk : pW o G k l) (hn : pIn o G y n) (hQ : ∀ o' G' r, pWs o' G' u t (insA l n V) → gFr (gOnly u) o G o' G' → ((r = none ∧ (lkA l V).getD 0 = 0) ∨ ∃ z, r = some z ∧ pIn o' G' z ((lkA l V).getD 0)) → Q G' r) : wJ1_put Q t (some k) (some y) G := by
  obtain ⟨E, h1, h2⟩ := h
  have h0 : ¬ gOnly u (0, 0) := fun z => hu z.symm
  refine s_mput h1 hu (by rw [h2.len]; exact hl) hk fun o' G' g1 g2 => hQ o' G' _ ⟨_, g1, vInt.ins (hn.fr g2 h0) (vInt.fr g2 h0 h2)⟩ g2 ?_
  rcases vInt.lk (key := l) h2 with ⟨e1, e2⟩ | ⟨m, z, e1, e2, e3⟩
  · rw [e1, e2]
    exact Or.inl ⟨rfl, rfl⟩
  · rw [e1, e2]
    exact Or.inr ⟨z, rfl, e3.fr g2 h0⟩
theorem pBr.pw (h : pBr o G b a x B) : (bW B).Pairwise eLt := by
  have := h.nd
  unfold keys at this
  exact (List.pairwise_map.mp this).imp fun z => z
theorem pNs.pw {u : Nat × Nat} {s : Nat} {V : List Wd} (h : pNs o G u s V) : V.Pairwise (fun p q => wlt p q = true) := by
  obtain ⟨-, -, t, -, L, k, v, sub, root, h1, h2, h3⟩ := h
  unfold eNs at h3
  exact List.pairwise_map.mp h3
def oW (B : Bk) (V : List Wn) : Bk := (V, bN B, bP B, bB B, bS B, bL B, bK B, bE B)
def oN (B : Bk) (V : List Wd) : Bk := (bW B, V, bP B, bB B, bS B, bL B, bK B, bE B)
def oP (B : Bk) (V : List Mt) : Bk := (bW B, bN B, V, bB B, bS B, bL B, bK B, bE B)
def oB (B : Bk) (V : List Mt) : Bk := (bW B, bN B, bP B, V, bS B, bL B, bK B, bE B)
def oS (B : Bk) (V : List Mt) : Bk := (bW B, bN B, bP B, bB B, V, bL B, bK B, bE B)
def oL (B : Bk) (V : List Mt) : Bk := (bW B, bN B, bP B, bB B, bS B, V, bK B, bE B)
def oK (B : Bk) (V : Nat → Int32) : Bk := (bW B, bN B, bP B, bB B, bS B, bL B, V, bE B)
def oE (B : Bk) (V : Nat → Int32) : Bk := (bW B, bN B, bP B, bB B, bS B, bL B, bK B, V)
theorem s_baddWord {Q : hG → Int32 → Prop} {X : Bool → hG → Prop} {t : Nat} {v : Int32} (hb : b ≠ 0) (hg : gB c B) (h : pBr o G b a x B) (hk : kIc o G) (ht : pW o G t l) (h1 : ¬ (∃ n, 1 ≤ n ∧ n ≤ 999 ∧ v = nI n) → X false G) (h2 : (∃ n, 1 ≤ n ∧ n ≤ 999 ∧ v = nI n) → l ∉ keys B → 20 ≤ (bW B).length → X true G) (hQ : ∀ n, 1 ≤ n → n ≤ 999 → v = nI n → (l ∈ keys B ∨ (bW B).length < 20) → ∀ o' G', pBr o' G' b a x (oW B (insA l n (bW B))) → gFr (qM b) o G o' G' → Q G' (nI (cnt B l))) : wX2_addWord Q X a t v G := by
  have hh := h
  obtain ⟨⟨g1, g2, g3⟩, ⟨E, p0, q0⟩, -⟩ := h
  unfold wX2_addWord
  refine s_rng (lo := 1) (hi := 999) rfl rfl (by decide) (by decide) (fun n n1 n2 n3 => s_rq (fun z => absurd z (by decide)) fun _ => ?_) (fun z => s_rq (fun _ => h1 z) (fun y => absurd rfl y))
  have fin : (l ∈ keys B ∨ (bW B).length < 20) → wX2_addWord_b37 Q X a t v G := by
    intro hc
    unfold wX2_addWord_b37 wX2_addWord_b42
    refine s_rqS (fun z => absurd z (by decide)) fun _ => ⟨hclt g1, hlet_i ?_⟩
    rw [g3 0 (by decide), n3]
    refine s_valueOf hk (by omega) fun o1 G1 y y1 y2 => ⟨x 0, rfl, ?_⟩
    have h' := hh.fr (y2 gNo) (fun _ z => z) (fun z => z)
    have hl := hg.1
    refine ⟨h'.c0, s_wput h'.2.1 (on_00 hb) (by omega) (ht.fr (y2 gNo) (fun z => z)) y1 fun o2 G2 r k1 k2 k3 => ?_⟩
    have q := hQ n n1 n2 n3 hc o2 G2 (h'.put0 hb k2 k1) ((y2 _).tr k2.q)
    unfold wX2_addWord_b75
    rcases k3 with ⟨r1, r2⟩ | ⟨z, r1, r2⟩
    · rw [r1]
      refine ⟨fun y ey => (by cases ey), cm_none ?_⟩
      unfold cnt at q
      rw [r2] at q
      exact q
    · rw [r1]
      refine ⟨fun y ey => (by cases ey; exact r2.cl), cm_some ⟨r2.cl, ?_⟩⟩
      have rc := r2.cl
      obtain ⟨bb, z1, z2, z3⟩ := r2
      unfold wJ20_intValue
      refine ⟨rc, ?_⟩
      rw [z3]
      exact q
  refine ⟨hclt g1, hlet_i ⟨x 0, g3 0 (by decide), hh.c0, s_whas hh ht (fun w => br_f (by decide) (fin (Or.inl w))) (fun w => br_t rfl ⟨hclt g1, hlet_i ⟨x 0, g3 0 (by decide), hh.c0, s_msize p0 ?_⟩⟩)⟩⟩
  rw [q0.len]
  have hl := hg.1
  refine br_c (fun z => ?_) (fun z => ?_)
  · have := (nI_leI (a := 20) (by omega) (by omega)).mp z
    unfold wX2_addWord_b42
    exact s_rqS (fun _ => h2 ⟨n, n1, n2, n3⟩ w this) (fun y => absurd rfl y)
  · exact fin (Or.inr (Nat.not_le.mp fun y => z ((nI_leI (a := 20) (by omega) (by omega)).mpr y)))
theorem gB.addWord {n : Nat} (hg : gB c B) (hp : (bW B).Pairwise eLt) (n1 : 1 ≤ n) (n2 : n ≤ 999) (h : l ∈ keys B ∨ (bW B).length < 20) : gB c (oW B (insA l n (bW B))) := by
  obtain ⟨h1, h2, h3⟩ := hg
  refine ⟨?_, fun e he => ?_, h3⟩
  · show (insA l n (bW B)).length ≤ 20
    rcases h with h | h
    · rw [insA_len0 hp h]
      exact h1
    · have := insA_len (key := l) (v := n) (V := bW B)
      omega
  · rcases insA_mem he with z | z
    · rw [z]
      exact ⟨n1, n2⟩
    · exact h2 e z
theorem s_bdropWord {Q : hG → Int32 → Prop} {t : Nat} (hb : b ≠ 0) (h : pBr o G b a x B) (ht : pW o G t l) (hQ : ∀ o' G', pBr o' G' b a x (oW B (rmA l (bW B))) → gFr (qM b) o G o' G' → Q G' (nI (cnt B l))) : wX2_dropWord Q a t G := by
  have hh := h
  have h0 : ¬ gOnly (b, 0) (0, 0) := on_0 hb
  obtain ⟨⟨g1, g2, g3⟩, ⟨E, p0, q0⟩, -⟩ := h
  unfold wX2_dropWord wX2_dropWord_b24
  refine ⟨hclt g1, hlet_i ⟨x 0, g3 0 (by decide), hh.c0, s_mrem p0 (on_00 hb) ht fun G' k1 k2 => ?_⟩⟩
  have q := hQ o G' (hh.put0 hb k2 ⟨_, k1, vInt.rm (vInt.fr k2 h0 q0)⟩) k2.q
  unfold cnt at q
  rcases vInt.lk (key := l) q0 with ⟨e1, e2⟩ | ⟨m, z, e1, e2, e3⟩
  · rw [e2]
    rw [e1] at q
    exact ⟨fun y ey => (by cases ey), cm_none q⟩
  · rw [e2]
    rw [e1] at q
    have e3' := e3.fr k2 h0
    refine ⟨fun y ey => (by cases ey; exact e3'.cl), cm_some ⟨e3'.cl, ?_⟩⟩
    have rc := e3'.cl
    obtain ⟨bb, z1, z2, z3⟩ := e3'
    unfold wJ20_intValue
    refine ⟨rc, ?_⟩
    rw [z3]
    exact q
theorem gB.dropWord (hg : gB c B) : gB c (oW B (rmA l (bW B))) := by
  obtain ⟨h1, h2, h3⟩ := hg
  refine ⟨?_, fun e he => ?_, h3⟩
  · show (rmA l (bW B)).length ≤ 20
    unfold rmA
    exact Nat.le_trans (List.length_filter_le _ _) h1
  · have : e ∈ rmA l (bW B) := he
    unfold rmA at this
    exact h2 e (List.mem_filter.mp this).1
theorem s_baddName {Q : hG → Int32 → Prop} {X : Bool → hG → Prop} {t : Nat} (hb : b ≠ 0) (hg : gB c B) (h : pBr o G b a x B) (ht : pW o G t l) (h2 : l ∉ bN B → 10 ≤ (bN B).length → X true G) (hQ : (l ∈ bN B ∨ (bN B).length < 10) → ∀ o' G', pBr o' G' b a x (oN B (insS l (bN B))) → gFr (qM b) o G o' G' → Q G' (if l ∈ bN B then 0 else 1)) : wX2_addName Q X a t G := by
  have hh := h
  obtain ⟨⟨g1, g2, g3⟩, -, p1, -⟩ := h
  have hl := hg.2.2.1
  have fin : (l ∈ bN B ∨ (bN B).length < 10) → wX2_addName_b23 Q X a t G := by
    intro hc
    unfold wX2_addName_b23 wX2_addName_b28 wX2_addName_b49
    refine s_rqS (fun z => absurd z (by decide)) fun _ => ⟨hclt g1, hlet_i ⟨x 1, g3 1 (by decide), hclt p1.1, s_nadd p1 (on_00 hb) (by omega) ht fun o' G' k1 k2 => ?_⟩⟩
    have q := hQ hc o' G' (hh.put1 hb k2 k1) k2.q
    by_cases e : l ∈ bN B
    · rw [if_pos e] at q ⊢
      exact br_t rfl q
    · rw [if_neg e] at q ⊢
      exact br_f (by decide) q
  unfold wX2_addName
  refine ⟨hclt g1, hlet_i ⟨x 1, g3 1 (by decide), hclt p1.1, s_nhas2 hh ht (fun w => br_f (by decide) (fin (Or.inl w))) (fun w => br_t rfl ⟨hclt g1, hlet_i ⟨x 1, g3 1 (by decide), hclt p1.1, s_nsize p1 (br_c (fun z => ?_) (fun z => ?_))⟩⟩)⟩⟩
  · have := (nI_leI (a := 10) (by omega) (by omega)).mp z
    unfold wX2_addName_b28
    exact s_rqS (fun _ => h2 w this) (fun y => absurd rfl y)
  · exact fin (Or.inr (Nat.not_le.mp fun y => z ((nI_leI (a := 10) (by omega) (by omega)).mpr y)))
theorem gB.addName (hg : gB c B) (hp : (bN B).Pairwise (fun p q => wlt p q = true)) (h : l ∈ bN B ∨ (bN B).length < 10) : gB c (oN B (insS l (bN B))) := by
  obtain ⟨h1, h2, h3, h4⟩ := hg
  refine ⟨h1, h2, ?_, h4⟩
  show (insS l (bN B)).length ≤ 10
  rcases h with h | h
  · rw [insS_len0 hp h]
    exact h3
  · have := insS_len (key := l) (V := bN B)
    omega
def rmN (l : Wd) (V : List Wd) : List Wd := V.filter (fun w => w != l)
theorem s_bdropName {Q : hG → Int32 → Prop} {t : Nat} (hb : b ≠ 0) (h : pBr o G b a x B) (ht : pW o G t l) (hQ : ∀ o' G', pBr o' G' b a x (oN B (rmN l (bN B))) → gFr (qM b) o G o' G' → Q G' (if l ∈ bN B then 1 else 0)) : wX2_dropName Q a t G := by
  have hh := h
  obtain ⟨⟨g1, g2, g3⟩, -, p1, -⟩ := h
  unfold wX2_dropName wX2_dropName_b16
  refine ⟨hclt g1, hlet_i ⟨x 1, g3 1 (by decide), hclt p1.1, s_nrem p1 (on_00 hb) ht fun G' k1 k2 => ?_⟩⟩
  have q := hQ o G' (hh.put1 hb k2 k1) k2.q
  by_cases e : l ∈ bN B
  · rw [if_pos e] at q ⊢
    exact br_f (by decide) q
  · rw [if_neg e] at q ⊢
    exact br_t rfl q
theorem gB.dropName (hg : gB c B) : gB c (oN B (rmN l (bN B))) := by
  obtain ⟨h1, h2, h3, h4⟩ := hg
  refine ⟨h1, h2, ?_, h4⟩
  show (rmN l (bN B)).length ≤ 10
  unfold rmN
  exact Nat.le_trans (List.length_filter_le _ _) h3
theorem s_bsetStick {Q : hG → Int32 → Prop} {X : Bool → hG → Prop} {v w : Int32} (hb : b ≠ 0) (h : pBr o G b a x B) (h1 : ¬ ((∃ n, 0 ≤ n ∧ n ≤ 25 ∧ v = nI n) ∧ ∃ n, 0 ≤ n ∧ n ≤ 2 ∧ w = nI n) → X false G) (hQ : ∀ i n, i ≤ 25 → n ≤ 2 → v = nI i → w = nI n → ∀ G', pBr o G' b a x (oK B (upS (bK B) i w)) → gFr (qM b) o G o G' → Q G' (bK B i)) : wX2_setStick Q X a v w G := by
  have hh := h
  obtain ⟨⟨g1, g2, g3⟩, -, -, -, -, -, -, p6, -⟩ := h
  unfold wX2_setStick
  have bad : ¬ ((∃ n, 0 ≤ n ∧ n ≤ 25 ∧ v = nI n) ∧ ∃ n, 0 ≤ n ∧ n ≤ 2 ∧ w = nI n) → wX2_setStick_b28 Q X a v w G := by
    intro z
    unfold wX2_setStick_b28 wX2_setStick_b29
    exact s_rq (fun _ => h1 z) (fun y => absurd rfl y)
  refine s_rng (lo := 0) (hi := 25) rfl rfl (by decide) (by decide) (fun i _ i2 i3 => br_f (by decide) ?_) (fun z => br_t rfl (bad fun y => z y.1))
  refine s_rng (lo := 0) (hi := 2) rfl rfl (by decide) (by decide) (fun n _ n2 n3 => br_f (by decide) ?_) (fun z => br_t rfl (bad fun y => z y.2))
  unfold wX2_setStick_b29
  refine s_rq (fun z => absurd z (by decide)) fun _ => ?_
  rw [i3]
  refine ⟨hclt g1, hlet_i ⟨x 6, g3 6 (by decide), hclt p6.1, vp_in_nI (by rw [p6.2.2.1]; omega) (by rw [p6.2.2.1]; decide), hclt g1, hlet_i ⟨x 6, g3 6 (by decide), p6.1, vp_in_nI (by rw [p6.2.2.1]; omega) (by rw [p6.2.2.1]; decide), hlet_i ?_⟩⟩⟩
  rw [nI_clamp (by omega), p6.2.2.2 i (by omega)]
  have f1 : gFr (gOnly (b, 6)) o G o (hsI G (x 6) i w) := gFr.rf.sI (Or.inr p6.2.1)
  refine hQ i n i2 n2 i3 n3 _ (hh.put6 hb f1 ⟨p6.1, p6.2.1, p6.2.2.1, fun k hk => ?_⟩) f1.q
  rw [hI_sI]
  unfold upS
  by_cases e : k = i
  · rw [if_pos ⟨rfl, e⟩, if_pos e]
  · rw [if_neg (fun z => e z.2), if_neg e]
    exact p6.2.2.2 k hk
theorem gB.setStick {i n : Nat} (hg : gB c B) (hn : n ≤ 2) : gB c (oK B (upS (bK B) i (nI n))) := by
  obtain ⟨h1, h2, h3, h4, h5, h6, h7, h8, h9, h10⟩ := hg
  refine ⟨h1, h2, h3, h4, h5, h6, h7, h8, h9, fun k hk => ?_⟩
  show ∃ n', n' ≤ 2 ∧ upS (bK B) i (nI n) k = nI n'
  unfold upS
  by_cases e : k = i
  · rw [if_pos e]
    exact ⟨n, hn, rfl⟩
  · rw [if_neg e]
    exact h10 k hk
def okE (what value : Int32) : Prop := (what = 0 ∧ ∃ n, 0 ≤ n ∧ n ≤ 12 ∧ value = nI n) ∨ (what = 1 ∧ ∃ n, 1 ≤ n ∧ n ≤ 9 ∧ value = nI n) ∨ (what = 2 ∧ ∃ n, 1 ≤ n ∧ n ≤ 5 ∧ value = nI n)
theorem s_isSetting {Q : hG → Int32 → Prop} {v w : Int32} (h1 : okE v w → Q G 1) (h0 : ¬ okE v w → Q G 0) : wX2_isSetting Q v w G := by
  unfold wX2_isSetting wX2_isSetting_b73 wX2_isSetting_b74
  have d01 : ¬ (0 : Int32) = 1 := by decide
  have d02 : ¬ (0 : Int32) = 2 := by decide
  have d10 : ¬ (1 : Int32) = 0 := by decide
  have d12 : ¬ (1 : Int32) = 2 := by decide
  have d20 : ¬ (2 : Int32) = 0 := by decide
  have d21 : ¬ (2 : Int32) = 1 := by decide
  refine ⟨fun e => ?_, fun e => ?_, fun e => ⟨fun e2 => ?_, fun e2 => ?_⟩⟩
  · refine s_rng (lo := 0) (hi := 12) rfl rfl (by decide) (by decide) (fun n n1 n2 n3 => ⟨hft1, h1 (Or.inl ⟨e, n, n1, n2, n3⟩)⟩) (fun z => ⟨hft0, h0 fun y => ?_⟩)
    subst e
    rcases y with y | y | y
    · exact z y.2
    · exact d01 y.1
    · exact d02 y.1
  · refine s_rng (lo := 1) (hi := 9) rfl rfl (by decide) (by decide) (fun n n1 n2 n3 => ⟨hft1, h1 (Or.inr (Or.inl ⟨e, n, n1, n2, n3⟩))⟩) (fun z => ⟨hft0, h0 fun y => ?_⟩)
    subst e
    rcases y with y | y | y
    · exact d10 y.1
    · exact z y.2
    · exact d12 y.1
  · refine s_rng (lo := 1) (hi := 5) rfl rfl (by decide) (by decide) (fun n n1 n2 n3 => br_f d10 ⟨hft1, h1 (Or.inr (Or.inr ⟨e2, n, n1, n2, n3⟩))⟩) (fun z => br_t rfl ⟨hft0, h0 fun y => ?_⟩)
    subst e2
    rcases y with y | y | y
    · exact d20 y.1
    · exact d21 y.1
    · exact z y.2
  · refine ⟨hft0, h0 fun y => ?_⟩
    rcases y with y | y | y
    · exact e.1 y.1
    · exact e.2 y.1
    · exact e2 y.1
theorem s_bset {Q : hG → Int32 → Prop} {X : Bool → hG → Prop} {v w : Int32} (hb : b ≠ 0) (h : pBr o G b a x B) (h1 : ¬ okE v w → X false G) (hQ : ∀ i, i < 3 → v = nI i → okE v w → ∀ G', pBr o G' b a x (oE B (upS (bE B) i w)) → gFr (qM b) o G o G' → Q G' (bE B i)) : wX2_set Q X a v w G := by
  have hh := h
  obtain ⟨⟨g1, g2, g3⟩, -, -, -, -, -, -, -, p7⟩ := h
  unfold wX2_set
  refine s_isSetting (fun e => s_rq (fun z => absurd z (by decide)) fun _ => ?_) (fun e => s_rq (fun _ => h1 e) (fun y => absurd rfl y))
  obtain ⟨i, i1, i2⟩ : ∃ i, i < 3 ∧ v = nI i := by
    rcases e with e | e | e
    · exact ⟨0, by decide, e.1⟩
    · exact ⟨1, by decide, e.1⟩
    · exact ⟨2, by decide, e.1⟩
  have f1 : gFr (gOnly (b, 7)) o G o (hsI G (x 7) i w) := gFr.rf.sI (Or.inr p7.2.1)
  have q := hQ i i1 i2 e _ (hh.put7 hb f1 ⟨p7.1, p7.2.1, p7.2.2.1, fun k hk => by
    rw [hI_sI]
    unfold upS
    by_cases e : k = i
    · rw [if_pos ⟨rfl, e⟩, if_pos e]
    · rw [if_neg (fun z => e z.2), if_neg e]
      exact p7.2.2.2 k hk⟩) f1.q
  rw [i2]
  refine ⟨hclt g1, hlet_i ⟨x 7, g3 7 (by decide), hclt p7.1, vp_in_nI (by rw [p7.2.2.1]; omega) (by rw [p7.2.2.1]; decide), hclt g1, hlet_i ⟨x 7, g3 7 (by decide), p7.1, vp_in_nI (by rw [p7.2.2.1]; omega) (by rw [p7.2.2.1]; decide), hlet_i ?_⟩⟩⟩
  rw [nI_clamp (by omega), p7.2.2.2 i (by omega)]
  exact q
theorem gB.set {i : Nat} {w : Int32} (hi : i < 3) (hg : gB c B) (h : okE (nI i) w) : gB c (oE B (upS (bE B) i w)) := by
  obtain ⟨h1, h2, h3, h4, h5, h6, h7, h8, h9, h10⟩ := hg
  have iv : ∀ {k : Nat}, k < 3 → nI i = nI k → i = k := fun hk z => (nI_eq (by omega) (by omega)).mp z
  rcases h with ⟨e, n, n1, n2, n3⟩ | ⟨e, n, n1, n2, n3⟩ | ⟨e, n, n1, n2, n3⟩
  · have := iv (k := 0) (by decide) e
    subst this
    exact ⟨h1, h2, h3, h4, h5, h6, ⟨n, n2, n3⟩, h8, h9, h10⟩
  · have := iv (k := 1) (by decide) e
    subst this
    exact ⟨h1, h2, h3, h4, h5, h6, h7, ⟨n, n1, n2, n3⟩, h9, h10⟩
  · have := iv (k := 2) (by decide) e
    subst this
    exact ⟨h1, h2, h3, h4, h5, h6, h7, h8, ⟨n, n1, n2, n3⟩, h10⟩
end P36
