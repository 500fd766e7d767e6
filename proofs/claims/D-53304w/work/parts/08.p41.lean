/-! ===== plain law 41: the whole object of the class ===== -/
set_option maxRecDepth 100000
/-- the state: the book, the saved ones, the command text -/
abbrev Ste : Type := Bk × List Bk × List Nat
def pXr (o : gO) (G : hG) (xa c a sl ta b : Nat) (ids L : List Nat) (st : Ste) : Prop :=
  (hC G xa = some (1, true) ∧ o xa = (1, 0) ∧ hR G xa 0 = some a ∧ hR G xa 1 = some sl ∧ hR G xa 2 = some ta ∧ hI G xa 3 = nI st.2.2.length) ∧
  (pAL o G (1, 1) sl L ∧ L.length = st.2.1.length ∧ ids.length = st.2.1.length ∧ st.2.1.length ≤ 4 ∧ ∀ (k b' a' : Nat) (B' : Bk), ids[k]? = some b' → L[k]? = some a' → st.2.1[k]? = some B' → pBk o G b' a' B' ∧ gB c B') ∧
  (hC G ta = some (102, true) ∧ o ta = (1, 2) ∧ hN G ta = 150 ∧ ∀ k, k < st.2.2.length → hI G ta k = nI (st.2.2.getD k 0)) ∧ (st.2.2.length ≤ 150 ∧ ∀ t, t ∈ st.2.2 → t < 128) ∧
  (pBk o G b a st.1 ∧ gB c st.1) ∧ ((b :: ids).Nodup ∧ ∀ i, i ∈ b :: ids → 4 ≤ i) ∧ kC o G
def pX (o : gO) (G : hG) (xa c : Nat) (st : Ste) : Prop := ∃ a sl ta b ids L, pXr o G xa c a sl ta b ids L st
/-- owners that a call of the class may change -/
def xM : Nat × Nat → Prop := fun v => v.1 ≠ 2 ∧ v.1 ≠ 3 ∧ v ≠ (0, 0)
theorem xM_0 : ¬ xM (0, 0) := fun z => z.2.2 rfl
theorem xM_q {b : Nat} (h : 4 ≤ b) {v : Nat × Nat} (z : qM b v) : xM v := by
  rcases z with z | ⟨z1, z2⟩
  · exact ⟨by omega, by omega, fun y => by rw [y] at z; exact absurd z (by show ¬ 0 = b; omega)⟩
  · exact ⟨by omega, by omega, fun y => by rw [y] at z2; exact absurd z2 (by decide)⟩
theorem xM_c {b bs : Nat} (h : 4 ≤ b) (h' : 4 ≤ bs) {v : Nat × Nat} (z : gCp b bs v) : xM v := by
  rcases z with z | z | z
  · exact ⟨by omega, by omega, fun y => by rw [y] at z; exact absurd z (by show ¬ 0 = b; omega)⟩
  · rw [z]
    exact ⟨by show ¬ bs = 2; omega, by show ¬ bs = 3; omega, fun y => by have : bs = 0 := congrArg Prod.fst y; omega⟩
  · rw [z]
    exact ⟨by show ¬ bs = 2; omega, by show ¬ bs = 3; omega, fun y => by have : bs = 0 := congrArg Prod.fst y; omega⟩
theorem xM_1 {i : Nat} : xM (1, i) := ⟨fun y => Nat.noConfusion (Nat.succ.inj (show 1 = 2 from y)), fun y => Nat.noConfusion (Nat.succ.inj (show 1 = 3 from y)), fun y => by have : 1 = 0 := congrArg Prod.fst y; omega⟩
section P41
variable {o : gO} {G : hG} {xa c a sl ta b : Nat} {ids L : List Nat} {st : Ste} {l : Wd}
/-- nothing but one other book, or nothing of the books, has changed -/
theorem pXr.fr {M : Nat × Nat → Prop} {o' : gO} {G' : hG} (h : pXr o G xa c a sl ta b ids L st) (hf : gFr M o G o' G') (h1 : ∀ i, ¬ M (1, i)) (hb : ∀ k i, k ∈ b :: ids → ¬ M (k, i)) (h0 : ¬ M (0, 0)) : pXr o' G' xa c a sl ta b ids L st := by
  obtain ⟨⟨a1, a2, a3, a4, a5, a6⟩, ⟨b1, b2, b3, b4, b5⟩, ⟨c1, c2, c3, c4⟩, d, ⟨e1, e2⟩, f, g⟩ := h
  have s := hf.S a1 a2 (h1 0)
  have s2 := hf.S c1 c2 (h1 2)
  refine ⟨⟨hf.C a1, (hf.O a1).trans a2, s.R a3, s.R a4, s.R a5, s.I a6⟩, ⟨b1.fr hf (h1 1) h0, b2, b3, b4, fun k b' a' B' x1 x2 x3 => ?_⟩, ⟨hf.C c1, (hf.O c1).trans c2, s2.N c3, fun k hk => s2.I (c4 k hk)⟩, d, ⟨e1.fr hf (fun i => hb b i (List.mem_cons_self ..)) h0, e2⟩, f, g.fr hf h0⟩
  obtain ⟨x4, x5⟩ := b5 k b' a' B' x1 x2 x3
  exact ⟨x4.fr hf (fun i => hb b' i (List.mem_cons_of_mem _ (List.mem_of_getElem? x1))) h0, x5⟩
/-- the current book alone has changed -/
theorem pXr.cur {o' : gO} {G' : hG} {B' : Bk} (h : pXr o G xa c a sl ta b ids L st) (hf : gFr (qM b) o G o' G') (hB : pBk o' G' b a B') (hg : gB c B') : pXr o' G' xa c a sl ta b ids L (B', st.2) := by
  obtain ⟨⟨a1, a2, a3, a4, a5, a6⟩, ⟨b1, b2, b3, b4, b5⟩, ⟨c1, c2, c3, c4⟩, d, ⟨e1, e2⟩, f, g⟩ := h
  have hb4 := f.2 b (List.mem_cons_self ..)
  have h0 : ¬ qM b (0, 0) := qM_0 (by omega)
  have h1 : ∀ i, ¬ qM b (1, i) := fun i z => by
    rcases z with z | z
    · have : 1 = b := z
      omega
    · have : 1 = 0 := z.1
      omega
  have s := hf.S a1 a2 (h1 0)
  have s2 := hf.S c1 c2 (h1 2)
  refine ⟨⟨hf.C a1, (hf.O a1).trans a2, s.R a3, s.R a4, s.R a5, s.I a6⟩, ⟨b1.fr hf (h1 1) h0, b2, b3, b4, fun k b' a' B'' x1 x2 x3 => ?_⟩, ⟨hf.C c1, (hf.O c1).trans c2, s2.N c3, fun k hk => s2.I (c4 k hk)⟩, d, ⟨hB, hg⟩, f, g.fr hf h0⟩
  obtain ⟨x4, x5⟩ := b5 k b' a' B'' x1 x2 x3
  have hm := List.mem_of_getElem? x1
  refine ⟨x4.fr hf (fun i z => ?_) h0, x5⟩
  rcases z with z | z
  · have z' : b' = b := z
    rw [z'] at hm
    exact (List.nodup_cons.mp f.1).1 hm
  · have z' : b' = 0 := z.1
    have := f.2 b' (List.mem_cons_of_mem _ hm)
    omega
theorem gFr.x {o' : gO} {G' : hG} {b : Nat} (h : gFr (qM b) o G o' G') (hb : 4 ≤ b) : gFr xM o G o' G' := h.mono fun _ z => xM_q hb z
theorem new_id (K : List Nat) : ∃ n, 4 ≤ n ∧ n ∉ K := by
  refine ⟨K.foldr (fun p q => p + q) 4 + 1, ?_, fun h => ?_⟩
  · have : ∀ K : List Nat, 4 ≤ K.foldr (fun p q => p + q) 4 := fun K => by
      induction K with
      | nil => exact Nat.le_refl _
      | cons a K ih => rw [List.foldr_cons]; omega
    have := this K
    omega
  · have : ∀ (K : List Nat) (m : Nat), m ∈ K → m ≤ K.foldr (fun p q => p + q) 4 := fun K => by
      induction K with
      | nil => intro m h; cases h
      | cons a K ih =>
        intro m h
        rw [List.foldr_cons]
        rcases List.mem_cons.mp h with h | h
        · omega
        · have := ih m h
          omega
    have := this K _ h
    omega
theorem s_xcopy {Q : hG → Option Nat → Prop} (h : pXr o G xa c a sl ta b ids L st) (hQ : ∀ b' o' G' q y, 4 ≤ b' → b' ∉ b :: ids → pBr o' G' b' q y st.1 → pXr o' G' xa c a sl ta b ids L st → gFr xM o G o' G' → Q G' (some q)) : wX2_copy Q a G := by
  obtain ⟨b', hb1, hb2⟩ := new_id (b :: ids)
  have hh := h
  obtain ⟨-, -, -, -, ⟨⟨x, e1⟩, e2⟩, f, g⟩ := h
  have hb4 := f.2 b (List.mem_cons_self ..)
  have hne : b' ≠ b := fun z => hb2 (by rw [z]; exact List.mem_cons_self ..)
  refine s_copy (b := b') e1 g.1 (by omega) (by omega) hne (by have := e2.1; omega) (by have := e2.2.2.1; omega) fun o' G' q y k1 k2 k3 => hQ b' o' G' q y hb1 hb2 k1 ?_ (k3.mono fun _ z => xM_c hb1 hb4 z)
  -- the old book is as it was, the others unchanged
  obtain ⟨⟨a1, a2, a3, a4, a5, a6⟩, ⟨b1, b2, b3, b4, b5⟩, ⟨c1, c2, c3, c4⟩, d, -, -, -⟩ := hh
  have h0 : ¬ gCp b' b (0, 0) := fun z => by
    rcases z with z | z | z
    · have : 0 = b' := z
      omega
    · have : 0 = b := congrArg Prod.fst z
      omega
    · have : 0 = b := congrArg Prod.fst z
      omega
  have h1 : ∀ i, ¬ gCp b' b (1, i) := fun i z => by
    rcases z with z | z | z
    · have : 1 = b' := z
      omega
    · have : 1 = b := congrArg Prod.fst z
      omega
    · have : 1 = b := congrArg Prod.fst z
      omega
  have s := k3.S a1 a2 (h1 0)
  have s2 := k3.S c1 c2 (h1 2)
  refine ⟨⟨k3.C a1, (k3.O a1).trans a2, s.R a3, s.R a4, s.R a5, s.I a6⟩, ⟨b1.fr k3 (h1 1) h0, b2, b3, b4, fun k bb a' B'' x1 x2 x3 => ?_⟩, ⟨k3.C c1, (k3.O c1).trans c2, s2.N c3, fun k hk => s2.I (c4 k hk)⟩, d, ⟨⟨x, k2⟩, e2⟩, f, g.fr k3 h0⟩
  obtain ⟨x4, x5⟩ := b5 k bb a' B'' x1 x2 x3
  have hm := List.mem_of_getElem? x1
  have hnb : bb ≠ b := fun z => by
    rw [z] at hm
    exact (List.nodup_cons.mp f.1).1 hm
  refine ⟨x4.fr k3 (fun i z => ?_) h0, x5⟩
  rcases z with z | z | z
  · have z' : bb = b' := z
    rw [z'] at hm
    exact hb2 (List.mem_cons_of_mem _ hm)
  · exact hnb (congrArg Prod.fst z)
  · exact hnb (congrArg Prod.fst z)
def psh (S : List Bk) (B : Bk) : List Bk := (if S.length = 4 then S.eraseIdx 0 else S) ++ [B]
theorem pXr.mono {c' : Nat} (h : pXr o G xa c a sl ta b ids L st) (hc : c ≤ c') : pXr o G xa c' a sl ta b ids L st := by
  obtain ⟨h1, ⟨b1, b2, b3, b4, b5⟩, h3, h4, ⟨e1, e2⟩, h6⟩ := h
  exact ⟨h1, ⟨b1, b2, b3, b4, fun k b' a' B' x1 x2 x3 => ⟨(b5 k b' a' B' x1 x2 x3).1, (b5 k b' a' B' x1 x2 x3).2.mono hc⟩⟩, h3, h4, ⟨e1, e2.mono hc⟩, h6⟩
theorem s_b23 {Q : hG → Int32 → Prop} {b' a' : Nat} {B' : Bk} {z : Int32} {S0 : List Bk} (h : pXr o G xa c a sl ta b ids L (st.1, S0, st.2.2)) (hl : S0.length < 4) (hb' : b' ∉ b :: ids) (h4 : 4 ≤ b') (hB : pBk o G b' a' B') (hg : gB c B') (hQ : ∀ o' G', pX o' G' xa c (B', S0 ++ [st.1], st.2.2) → gFr xM o G o' G' → Q G' z) : wX1_become_b23 Q xa a' z G := by
  have hh := h
  obtain ⟨⟨a1, a2, a3, a4, a5, a6⟩, ⟨b1, b2, b3, b4, b5⟩, ⟨c1, c2, c3, c4⟩, d, ⟨e1, e2⟩, f, g⟩ := h
  have ac : hC G a = some (2, true) := by
    obtain ⟨x, e1⟩ := e1
    exact e1.1.1
  have sc : hC G sl = some (18, true) := by
    obtain ⟨r, b1⟩ := b1
    exact b1.1
  have n0 : ¬ gOnly (1, 1) (0, 0) := fun z => by cases z
  unfold wX1_become_b23
  refine ⟨hclt a1, hlet_i ⟨hclt a1, hlet_i ⟨sl, a4, hclt sc, ?_⟩⟩⟩
  rw [a3]
  have b2' : L.length = S0.length := b2
  have b3' : ids.length = S0.length := b3
  refine s_aladd b1 (by omega) ⟨2, by decide, hclt ac⟩ fun o' G' k1 k2 => ?_
  have s := k2.S a1 a2 (fun z => by cases z)
  have s2 := k2.S c1 c2 (fun z => by cases z)
  have f2 : gFr xM o G o' (hsR G' xa 0 (some a')) := (k2.mono fun v z => by rw [show v = (1, 1) from z]; exact xM_1).sR (Or.inr (by rw [a2]; exact xM_1))
  have hox : o' xa = (1, 0) := (k2.O a1).trans a2
  have fO : gFr (gOnly (1, 0)) o' G' o' (hsR G' xa 0 (some a')) := gFr.rf.sR (Or.inr hox)
  have n0' : ¬ gOnly (1, 0) (0, 0) := fun z => by cases z
  have nb : ∀ k i j, 4 ≤ k → ¬ gOnly (1, i) (k, j) := fun k i j hk z => by have : k = 1 := congrArg Prod.fst z; omega
  have tx := (k2.O c1).trans c2
  have hxt : ta ≠ xa := fun z => by rw [z, a1] at c1; cases c1
  refine ⟨k2.C a1, hlet_i (hQ o' _ ⟨a', sl, ta, b', ids ++ [b], L ++ [a], ⟨k2.C a1, hox, by rw [hR_sR, if_pos ⟨rfl, rfl⟩], ?_, ?_, s.I a6⟩, ⟨k1.fr fO (fun z => by cases z) n0', ?_, ?_, ?_, ?_⟩, ⟨k2.C c1, tx, s2.N c3, fun k hk => s2.I (c4 k hk)⟩, d, ⟨?_, hg⟩, ⟨?_, ?_⟩, (g.fr k2 n0).fr fO n0'⟩ f2)⟩
  · rw [hR_sR, if_neg (fun z => by cases z.2)]
    exact s.R a4
  · rw [hR_sR, if_neg (fun z => by cases z.2)]
    exact s.R a5
  · rw [List.length_append, b2']
    show _ = (S0 ++ [st.1]).length
    rw [List.length_append]
    rfl
  · rw [List.length_append, b3']
    show _ = (S0 ++ [st.1]).length
    rw [List.length_append]
    rfl
  · show (S0 ++ [st.1]).length ≤ 4
    rw [List.length_append, List.length_singleton]
    omega
  · intro k bb aa BB x1 x2 x3
    have x3' : (S0 ++ [st.1])[k]? = some BB := x3
    by_cases hk : k < S0.length
    · rw [List.getElem?_append_left (by omega)] at x1 x2 x3'
      obtain ⟨x4, x5⟩ := b5 k bb aa BB x1 x2 x3'
      have hm := f.2 bb (List.mem_cons_of_mem _ (List.mem_of_getElem? x1))
      exact ⟨(x4.fr k2 (fun i => nb bb 1 i hm) n0).fr fO (fun i => nb bb 0 i hm) n0', x5⟩
    · rw [List.getElem?_append_right (by omega)] at x1 x2 x3'
      have hk0 : k = S0.length := by
        apply Classical.byContradiction
        intro z
        rw [List.getElem?_eq_none (by rw [List.length_singleton]; omega)] at x3'
        cases x3'
      rw [show k - ids.length = 0 by omega] at x1
      rw [show k - L.length = 0 by omega] at x2
      rw [show k - S0.length = 0 by omega] at x3'
      cases x1
      cases x2
      cases x3'
      have hm := f.2 b (List.mem_cons_self ..)
      exact ⟨(e1.fr k2 (fun i => nb b 1 i hm) n0).fr fO (fun i => nb b 0 i hm) n0', e2⟩
  · exact (hB.fr k2 (fun i => nb b' 1 i h4) n0).fr fO (fun i => nb b' 0 i h4) n0'
  · obtain ⟨f1, f2⟩ := List.nodup_cons.mp f.1
    refine List.nodup_cons.mpr ⟨fun z => ?_, ?_⟩
    · rcases List.mem_append.mp z with z | z
      · exact hb' (List.mem_cons_of_mem _ z)
      · exact hb' (by rw [List.mem_singleton.mp z]; exact List.mem_cons_self ..)
    · exact List.nodup_append.mpr ⟨f2, by simp, fun p hp q hq => fun z => f1 (by rw [← List.mem_singleton.mp hq, ← z]; exact hp)⟩
  · intro i hi
    rcases List.mem_cons.mp hi with hi | hi
    · rw [hi]
      exact h4
    · rcases List.mem_append.mp hi with hi | hi
      · exact f.2 i (List.mem_cons_of_mem _ hi)
      · rw [List.mem_singleton.mp hi]
        exact f.2 b (List.mem_cons_self ..)
theorem s_become {Q : hG → Int32 → Prop} {b' a' : Nat} {B' : Bk} {z : Int32} (h : pXr o G xa c a sl ta b ids L st) (hb' : b' ∉ b :: ids) (h4 : 4 ≤ b') (hB : pBk o G b' a' B') (hg : gB c B') (hQ : ∀ o' G', pX o' G' xa c (B', psh st.2.1 st.1, st.2.2) → gFr xM o G o' G' → Q G' z) : wX1_become Q xa a' z G := by
  have hh := h
  obtain ⟨⟨a1, a2, a3, a4, a5, a6⟩, ⟨b1, b2, b3, b4, b5⟩, ⟨c1, c2, c3, c4⟩, d, ⟨e1, e2⟩, f, g⟩ := h
  have sc : hC G sl = some (18, true) := by
    obtain ⟨r, b1⟩ := b1
    exact b1.1
  unfold wX1_become
  refine ⟨hclt a1, hlet_i ⟨sl, a4, hclt sc, s_alsize b1 ?_⟩⟩
  unfold psh at hQ
  rw [b2]
  refine br_c (fun e => ?_) (fun e => ?_)
  · have e4 : st.2.1.length = 4 := (nI_eq (b := 4) (by omega) (by decide)).mp e
    rw [if_pos e4] at hQ
    refine ⟨hclt a1, hlet_i ⟨sl, a4, hclt sc, ?_⟩⟩
    rw [show (0 : Int32) = nI 0 from rfl]
    have hL : 0 < L.length := by omega
    refine s_alremove b1 hL fun G' k1 k2 => ?_
    have n0 : ¬ gOnly (1, 1) (0, 0) := fun z => by cases z
    have nb : ∀ k j, 4 ≤ k → ¬ gOnly (1, 1) (k, j) := fun k j hk z => by have : k = 1 := congrArg Prod.fst z; omega
    have s := k2.S a1 a2 (fun z => by cases z)
    have s2 := k2.S c1 c2 (fun z => by cases z)
    have hdl : (st.2.1.eraseIdx 0).length = 3 := by rw [List.length_eraseIdx_of_lt (by omega), e4]
    have er : ∀ {α : Type} (K : List α) (k : Nat), (K.eraseIdx 0)[k]? = K[k + 1]? := fun K k => by
      cases K with
      | nil => rfl
      | cons p K => rfl
    have hm4 : ∀ i, i ∈ b :: ids.eraseIdx 0 → i ∈ b :: ids := fun i hi => by
      rcases List.mem_cons.mp hi with hi | hi
      · rw [hi]
        exact List.mem_cons_self ..
      · exact List.mem_cons_of_mem _ (List.mem_of_mem_eraseIdx hi)
    have h' : pXr o G' xa c a sl ta b (ids.eraseIdx 0) (L.eraseIdx 0) (st.1, st.2.1.eraseIdx 0, st.2.2) := by
      refine ⟨⟨k2.C a1, a2, s.R a3, s.R a4, s.R a5, s.I a6⟩, ⟨k1, ?_, ?_, ?_, fun k bb aa BB x1 x2 x3 => ?_⟩, ⟨k2.C c1, c2, s2.N c3, fun k hk => s2.I (c4 k hk)⟩, d, ⟨e1.fr k2 (fun i => nb b i (f.2 b (List.mem_cons_self ..))) n0, e2⟩, ⟨?_, fun i hi => f.2 i (hm4 i hi)⟩, g.fr k2 n0⟩
      · show _ = (st.2.1.eraseIdx 0).length
        rw [List.length_eraseIdx_of_lt (by omega), hdl]
        omega
      · show _ = (st.2.1.eraseIdx 0).length
        rw [List.length_eraseIdx_of_lt (by omega), hdl]
        omega
      · show (st.2.1.eraseIdx 0).length ≤ 4
        omega
      · rw [er] at x1 x2
        have x3' : (st.2.1.eraseIdx 0)[k]? = some BB := x3
        rw [er] at x3'
        obtain ⟨x4, x5⟩ := b5 (k + 1) bb aa BB x1 x2 x3'
        exact ⟨x4.fr k2 (fun i => nb bb i (f.2 bb (List.mem_cons_of_mem _ (List.mem_of_getElem? x1)))) n0, x5⟩
      · obtain ⟨f1, f2⟩ := List.nodup_cons.mp f.1
        exact List.nodup_cons.mpr ⟨fun z => f1 (List.mem_of_mem_eraseIdx z), f2.sublist (List.eraseIdx_sublist ..)⟩
    refine ⟨fun y ey => ?_, ?_⟩
    · cases ey
      have hi0 : 0 < ids.length := by omega
      obtain ⟨⟨x, x4⟩, -⟩ := b5 0 _ _ _ (List.getElem?_eq_getElem hi0) (List.getElem?_eq_getElem hL) (List.getElem?_eq_getElem (by omega))
      exact k2.cl (hclt x4.1.1)
    · refine s_b23 (st := st) h' (by omega) (fun z => hb' (hm4 _ z)) h4 (hB.fr k2 (fun i => nb b' i h4) n0) hg fun o' G'' r1 r2 => hQ o' G'' r1 ?_
      exact (k2.mono fun v z => by rw [show v = (1, 1) from z]; exact xM_1).tr r2
  · have e4 : st.2.1.length ≠ 4 := fun z => e (by rw [z]; rfl)
    rw [if_neg e4] at hQ
    exact s_b23 (st := st) (S0 := st.2.1) hh (by omega) hb' h4 hB hg hQ
end P41
