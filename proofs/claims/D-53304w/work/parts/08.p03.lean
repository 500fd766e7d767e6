/-! ===== plain law 3: search trees as functions ===== -/
set_option maxRecDepth 100000
def so (sub : Nat → List Nat) : Option Nat → List Nat
  | none => []
  | some n => sub n
def TI (lf rt pr : Nat → Option Nat) (sub : Nat → List Nat) (L : List Nat) (root : Option Nat) : Prop :=
  L.Nodup ∧ so sub root = L ∧ (∀ r, root = some r → r ∈ L ∧ pr r = none) ∧
  (∀ n, n ∈ L → sub n = so sub (lf n) ++ n :: so sub (rt n)) ∧
  (∀ n, n ∈ L → ∃ A B, L = A ++ sub n ++ B) ∧
  (∀ n c, n ∈ L → lf n = some c → c ∈ L ∧ pr c = some n) ∧
  (∀ n c, n ∈ L → rt n = some c → c ∈ L ∧ pr c = some n) ∧
  (∀ n p, n ∈ L → pr n = some p → p ∈ L ∧ (lf p = some n ∨ rt p = some n)) ∧
  (∀ n, n ∈ L → pr n = none → root = some n)
section TISEC
variable {lf rt pr : Nat → Option Nat} {sub : Nat → List Nat} {L : List Nat} {root : Option Nat}
theorem TI.nd (h : TI lf rt pr sub L root) : L.Nodup := h.1
theorem TI.ro (h : TI lf rt pr sub L root) : so sub root = L := h.2.1
theorem TI.rp (h : TI lf rt pr sub L root) {r : Nat} (e : root = some r) : r ∈ L ∧ pr r = none := h.2.2.1 r e
theorem TI.eq (h : TI lf rt pr sub L root) {n : Nat} (e : n ∈ L) : sub n = so sub (lf n) ++ n :: so sub (rt n) := h.2.2.2.1 n e
theorem TI.inf (h : TI lf rt pr sub L root) {n : Nat} (e : n ∈ L) : ∃ A B, L = A ++ sub n ++ B := h.2.2.2.2.1 n e
theorem TI.lc (h : TI lf rt pr sub L root) {n c : Nat} (e : n ∈ L) (z : lf n = some c) : c ∈ L ∧ pr c = some n := h.2.2.2.2.2.1 n c e z
theorem TI.rc (h : TI lf rt pr sub L root) {n c : Nat} (e : n ∈ L) (z : rt n = some c) : c ∈ L ∧ pr c = some n := h.2.2.2.2.2.2.1 n c e z
theorem TI.pa (h : TI lf rt pr sub L root) {n p : Nat} (e : n ∈ L) (z : pr n = some p) : p ∈ L ∧ (lf p = some n ∨ rt p = some n) := h.2.2.2.2.2.2.2.1 n p e z
theorem TI.pn (h : TI lf rt pr sub L root) {n : Nat} (e : n ∈ L) (z : pr n = none) : root = some n := h.2.2.2.2.2.2.2.2 n e z
theorem TI.self (h : TI lf rt pr sub L root) {n : Nat} (e : n ∈ L) : n ∈ sub n := by
  rw [h.eq e]
  simp
theorem TI.sL (h : TI lf rt pr sub L root) {n m : Nat} (e : n ∈ L) (hm : m ∈ sub n) : m ∈ L := by
  obtain ⟨A, B, hL⟩ := h.inf e
  rw [hL]
  simp [hm]
theorem TI.nds (h : TI lf rt pr sub L root) {n : Nat} (e : n ∈ L) : (sub n).Nodup := by
  obtain ⟨A, B, hL⟩ := h.inf e
  have := h.nd
  rw [hL, List.append_assoc] at this
  exact (List.nodup_append.mp (List.nodup_append.mp this).2.1).1
theorem TI.lsub (h : TI lf rt pr sub L root) {n c : Nat} (e : n ∈ L) (z : lf n = some c) : sub n = sub c ++ n :: so sub (rt n) := by
  have := h.eq e
  rw [z] at this
  exact this
theorem TI.rsub (h : TI lf rt pr sub L root) {n c : Nat} (e : n ∈ L) (z : rt n = some c) : sub n = so sub (lf n) ++ n :: sub c := by
  have := h.eq e
  rw [z] at this
  exact this
/-- a child's part is smaller -/
theorem TI.llt (h : TI lf rt pr sub L root) {n c : Nat} (e : n ∈ L) (z : lf n = some c) : (sub c).length < (sub n).length := by
  rw [h.lsub e z, List.length_append, List.length_cons]
  omega
theorem TI.rlt (h : TI lf rt pr sub L root) {n c : Nat} (e : n ∈ L) (z : rt n = some c) : (sub c).length < (sub n).length := by
  rw [h.rsub e z, List.length_append, List.length_cons]
  omega
theorem TI.plt (h : TI lf rt pr sub L root) {n p : Nat} (e : n ∈ L) (z : pr n = some p) : (sub n).length < (sub p).length := by
  obtain ⟨h1, h2 | h2⟩ := h.pa e z
  · exact h.llt h1 h2
  · exact h.rlt h1 h2
theorem TI.lne (h : TI lf rt pr sub L root) {n c : Nat} (e : n ∈ L) (z : lf n = some c) : c ≠ n := by
  intro w
  have := h.llt e z
  rw [w] at this
  omega
theorem TI.rne (h : TI lf rt pr sub L root) {n c : Nat} (e : n ∈ L) (z : rt n = some c) : c ≠ n := by
  intro w
  have := h.rlt e z
  rw [w] at this
  omega
theorem TI.lrn (h : TI lf rt pr sub L root) {n c : Nat} (e : n ∈ L) (z : lf n = some c) : rt n ≠ some c := by
  intro w
  have h1 := h.nds e
  have h2 := h.self (h.lc e z).1
  have h3 := h.eq e
  rw [z, w] at h3
  rw [h3] at h1
  have := (List.nodup_append.mp h1).2.2 c h2 c (List.mem_cons_of_mem _ h2)
  exact this rfl
theorem TI.p2 (h : TI lf rt pr sub L root) {n q : Nat} (e : n ∈ L) (z : pr n = some q) : pr q ≠ some n := by
  intro w
  have h1 := h.plt e z
  have h2 := h.plt (h.pa e z).1 w
  omega
theorem TI.p1 (h : TI lf rt pr sub L root) {n : Nat} (e : n ∈ L) : pr n ≠ some n := by
  intro w
  have h1 := h.plt e w
  omega
/-- the mirror -/
theorem TI.mir (h : TI lf rt pr sub L root) : TI rt lf pr (fun n => (sub n).reverse) L.reverse root := by
  have hs : ∀ x, so (fun n => (sub n).reverse) x = (so sub x).reverse := fun x => by cases x <;> rfl
  refine ⟨List.pairwise_reverse.mpr (h.nd.imp (fun z => z.symm)), by rw [hs, h.ro], fun r e => ?_, fun n e => ?_, fun n e => ?_, fun n c e z => ?_, fun n c e z => ?_, fun n p e z => ?_, fun n e z => ?_⟩
  · have := h.rp e
    exact ⟨List.mem_reverse.mpr this.1, this.2⟩
  · rw [hs, hs]
    show (sub n).reverse = _
    rw [h.eq (List.mem_reverse.mp e)]
    simp
  · obtain ⟨A, B, hL⟩ := h.inf (List.mem_reverse.mp e)
    exact ⟨B.reverse, A.reverse, by rw [hL]; simp⟩
  · have := h.rc (List.mem_reverse.mp e) z
    exact ⟨List.mem_reverse.mpr this.1, this.2⟩
  · have := h.lc (List.mem_reverse.mp e) z
    exact ⟨List.mem_reverse.mpr this.1, this.2⟩
  · have := h.pa (List.mem_reverse.mp e) z
    exact ⟨List.mem_reverse.mpr this.1, this.2.symm⟩
  · exact h.pn (List.mem_reverse.mp e) z
theorem so_congr {s s' : Nat → List Nat} {x : Option Nat} (h : ∀ c, x = some c → s' c = s c) : so s' x = so s x := by
  cases x with
  | none => rfl
  | some c => exact h c rfl
/-- the left turn at p -/
theorem TI.rotL (h : TI lf rt pr sub L root) {p r : Nat} (hp : p ∈ L) (hr : rt p = some r) {lf' rt' pr' : Nat → Option Nat} {root' : Option Nat}
    (e1 : ∀ b, b ∈ L → lf' b = if b = r then some p else if pr p = some b ∧ lf b = some p then some r else lf b)
    (e2 : ∀ b, b ∈ L → rt' b = if b = p then lf r else if pr p = some b ∧ lf b ≠ some p then some r else rt b)
    (e3 : ∀ b, b ∈ L → pr' b = if b = p then some r else if b = r then pr p else if lf r = some b then some p else pr b)
    (e4 : root' = if pr p = none then some r else root) :
    TI lf' rt' pr' (fun b => if b = r then sub p else if b = p then so sub (lf p) ++ p :: so sub (lf r) else sub b) L root' := by
  obtain ⟨hrL, hrp⟩ := h.rc hp hr
  have hpr : r ≠ p := h.rne hp hr
  have f1 : pr p ≠ some r := h.p2 hrL hrp
  have f2 : pr p ≠ some p := h.p1 hp
  have f3 : lf p ≠ some r := fun z => h.lrn hp z hr
  have f4 : ∀ c, lf r = some c → c ≠ p ∧ c ≠ r ∧ c ∈ L ∧ pr c = some r := fun c z => by
    have := h.lc hrL z
    refine ⟨fun w => ?_, h.lne hrL z, this⟩
    rw [w] at this
    exact f1 this.2
  have f5 : ∀ c, rt r = some c → c ≠ p ∧ c ≠ r ∧ c ∈ L ∧ pr c = some r := fun c z => by
    have := h.rc hrL z
    refine ⟨fun w => ?_, h.rne hrL z, this⟩
    rw [w] at this
    exact f1 this.2
  have f6 : ∀ c, lf p = some c → c ≠ p ∧ c ≠ r ∧ c ∈ L ∧ pr c = some p := fun c z => by
    have := h.lc hp z
    exact ⟨h.lne hp z, fun w => f3 (by rw [← w]; exact z), this⟩
  -- children of others
  have f7 : ∀ n c, n ∈ L → n ≠ p → n ≠ r → (lf n = some c ∨ rt n = some c) → c ≠ r ∧ c ∈ L ∧ pr c = some n := fun n c hn n1 n2 z => by
    have g : c ∈ L ∧ pr c = some n := by
      rcases z with z | z
      · exact h.lc hn z
      · exact h.rc hn z
    refine ⟨fun w => ?_, g⟩
    rw [w, hrp] at g
    exact n1 (Option.some.inj g.2).symm
  have s1 : ∀ x : Option Nat, (∀ c, x = some c → c ≠ p ∧ c ≠ r) → so (fun b => if b = r then sub p else if b = p then so sub (lf p) ++ p :: so sub (lf r) else sub b) x = so sub x := fun x hx => so_congr fun c hc => by
    have := hx c hc
    simp only [if_neg this.2, if_neg this.1]
  have hsp : sub p = so sub (lf p) ++ p :: (so sub (lf r) ++ r :: so sub (rt r)) := by rw [h.rsub hp hr, h.eq hrL]
  refine ⟨h.nd, ?_, fun x e => ?_, fun n hn => ?_, fun n hn => ?_, fun n c hn z => ?_, fun n c hn z => ?_, fun n q hn z => ?_, fun n hn z => ?_⟩
  · rw [e4]
    by_cases c : pr p = none
    · rw [if_pos c]
      show (if r = r then sub p else _) = L
      rw [if_pos rfl]
      have := h.ro
      rw [h.pn hp c] at this
      exact this
    · rw [if_neg c, s1 root (fun x hx => ⟨fun w => ?_, fun w => ?_⟩)]
      · exact h.ro
      · rw [w] at hx
        exact c (h.rp hx).2
      · rw [w] at hx
        have := (h.rp hx).2
        rw [hrp] at this
        cases this
  · rw [e4] at e
    by_cases c : pr p = none
    · rw [if_pos c] at e
      cases e
      exact ⟨hrL, by rw [e3 _ hrL, if_neg hpr, if_pos rfl]; exact c⟩
    · rw [if_neg c] at e
      have g := h.rp e
      have x1 : x ≠ p := fun w => by rw [w] at g; exact c g.2
      have x2 : x ≠ r := fun w => by rw [w, hrp] at g; cases g.2
      have x3 : lf r ≠ some x := fun w => by
        have := (f4 x w).2.2.2
        rw [g.2] at this
        cases this
      exact ⟨g.1, by rw [e3 _ g.1, if_neg x1, if_neg x2, if_neg x3]; exact g.2⟩
  · show (if n = r then sub p else if n = p then _ else sub n) = _
    by_cases n2 : n = r
    · subst n2
      rw [if_pos rfl, e1 _ hrL, if_pos rfl, e2 _ hrL, if_neg hpr, if_neg (fun w => f1 w.1), s1 (rt n) (fun c z => ⟨(f5 c z).1, (f5 c z).2.1⟩)]
      show sub p = (if p = n then sub p else if p = p then so sub (lf p) ++ p :: so sub (lf n) else sub p) ++ n :: so sub (rt n)
      rw [if_neg hpr.symm, if_pos rfl, hsp]
      simp
    · rw [if_neg n2]
      by_cases n1 : n = p
      · subst n1
        rw [if_pos rfl, e1 _ hp, if_neg n2, if_neg (fun w => f2 w.1), e2 _ hp, if_pos rfl, s1 (lf n) (fun c z => ⟨(f6 c z).1, (f6 c z).2.1⟩), s1 (lf r) (fun c z => ⟨(f4 c z).1, (f4 c z).2.1⟩)]
      · rw [if_neg n1, e1 _ hn, if_neg n2, e2 _ hn, if_neg n1, h.eq hn]
        have key : so (fun b => if b = r then sub p else if b = p then so sub (lf p) ++ p :: so sub (lf r) else sub b) (some r) = sub p := if_pos rfl
        by_cases c1 : pr p = some n ∧ lf n = some p
        · rw [if_pos c1, if_neg (fun w => w.2 c1.2), key, c1.2, s1 (rt n) (fun c z => ⟨fun w => ?_, (f7 n c hn n1 n2 (Or.inr z)).1⟩)]
          · rfl
          · rw [w] at z
            exact h.lrn hn c1.2 z
        · rw [if_neg c1]
          by_cases c2 : pr p = some n ∧ lf n ≠ some p
          · have c3 : rt n = some p := by
              rcases (h.pa hp c2.1).2 with z | z
              · exact absurd z c2.2
              · exact z
            rw [if_pos c2, key, c3, s1 (lf n) (fun c z => ⟨fun w => ?_, (f7 n c hn n1 n2 (Or.inl z)).1⟩)]
            · rfl
            · rw [w] at z
              exact c2.2 z
          · have c4 : pr p ≠ some n := fun w => by
              by_cases c5 : lf n = some p
              · exact c1 ⟨w, c5⟩
              · exact c2 ⟨w, c5⟩
            rw [if_neg c2, s1 (lf n) (fun c z => ⟨fun w => ?_, (f7 n c hn n1 n2 (Or.inl z)).1⟩), s1 (rt n) (fun c z => ⟨fun w => ?_, (f7 n c hn n1 n2 (Or.inr z)).1⟩)]
            · rw [w] at z
              exact c4 (h.rc hn z).2
            · rw [w] at z
              exact c4 (h.lc hn z).2
  · by_cases n2 : n = r
    · simp only [if_pos n2]
      exact h.inf hp
    · by_cases n1 : n = p
      · simp only [if_neg n2, if_pos n1]
        obtain ⟨A, B, hL⟩ := h.inf hp
        exact ⟨A, r :: so sub (rt r) ++ B, by rw [hL, hsp]; simp⟩
      · simp only [if_neg n2, if_neg n1]
        exact h.inf hn
  · rw [e1 _ hn] at z
    by_cases n2 : n = r
    · rw [if_pos n2] at z
      cases z
      exact ⟨hp, by rw [e3 _ hp, if_pos rfl, n2]⟩
    · rw [if_neg n2] at z
      by_cases c1 : pr p = some n ∧ lf n = some p
      · rw [if_pos c1] at z
        cases z
        exact ⟨hrL, by rw [e3 _ hrL, if_neg hpr, if_pos rfl]; exact c1.1⟩
      · rw [if_neg c1] at z
        have g := h.lc hn z
        have x1 : c ≠ p := fun w => c1 (by rw [w] at g z; exact ⟨g.2, z⟩)
        have x2 : c ≠ r := fun w => by
          rw [w, hrp] at g
          have w2 := Option.some.inj g.2
          rw [← w2, w] at z
          exact f3 z
        have x3 : lf r ≠ some c := fun w => by
          have := (f4 c w).2.2.2
          rw [g.2] at this
          exact n2 (Option.some.inj this)
        exact ⟨g.1, by rw [e3 _ g.1, if_neg x1, if_neg x2, if_neg x3]; exact g.2⟩
  · rw [e2 _ hn] at z
    by_cases n1 : n = p
    · rw [if_pos n1] at z
      have g := f4 c z
      exact ⟨g.2.2.1, by rw [e3 _ g.2.2.1, if_neg g.1, if_neg g.2.1, if_pos z, n1]⟩
    · rw [if_neg n1] at z
      by_cases c1 : pr p = some n ∧ lf n ≠ some p
      · rw [if_pos c1] at z
        cases z
        exact ⟨hrL, by rw [e3 _ hrL, if_neg hpr, if_pos rfl]; exact c1.1⟩
      · rw [if_neg c1] at z
        have g := h.rc hn z
        have x1 : c ≠ p := fun w => by
          rw [w] at g z
          exact c1 ⟨g.2, fun y => h.lrn hn y z⟩
        have x2 : c ≠ r := fun w => by
          rw [w, hrp] at g
          exact n1 (Option.some.inj g.2).symm
        have x3 : lf r ≠ some c := fun w => by
          have := (f4 c w).2.2.2
          rw [g.2] at this
          have n2 := Option.some.inj this
          rw [n2] at z
          exact h.lrn hrL w z
        exact ⟨g.1, by rw [e3 _ g.1, if_neg x1, if_neg x2, if_neg x3]; exact g.2⟩
  · rw [e3 _ hn] at z
    by_cases n1 : n = p
    · rw [if_pos n1] at z
      cases z
      exact ⟨hrL, Or.inl (by rw [e1 _ hrL, if_pos rfl, n1])⟩
    · rw [if_neg n1] at z
      by_cases n2 : n = r
      · rw [if_pos n2] at z
        have g := h.pa hp z
        have q1 : q ≠ p := fun w => f2 (by rw [← w]; rw [w] at z; rw [w]; exact z)
        have q2 : q ≠ r := fun w => f1 (by rw [w] at z; exact z)
        by_cases c1 : lf q = some p
        · exact ⟨g.1, Or.inl (by rw [e1 _ g.1, if_neg q2, if_pos ⟨z, c1⟩, n2])⟩
        · exact ⟨g.1, Or.inr (by rw [e2 _ g.1, if_neg q1, if_pos ⟨z, c1⟩, n2])⟩
      · rw [if_neg n2] at z
        by_cases c1 : lf r = some n
        · rw [if_pos c1] at z
          cases z
          exact ⟨hp, Or.inr (by rw [e2 _ hp, if_pos rfl]; exact c1)⟩
        · rw [if_neg c1] at z
          have g := h.pa hn z
          refine ⟨g.1, ?_⟩
          by_cases q2 : q = r
          · rcases g.2 with w | w
            · rw [q2] at w
              exact absurd w c1
            · rw [q2] at w ⊢
              exact Or.inr (by rw [e2 _ hrL, if_neg hpr, if_neg (fun y => f1 y.1)]; exact w)
          · rcases g.2 with w | w
            · refine Or.inl ?_
              rw [e1 _ g.1, if_neg q2, if_neg (fun y => ?_)]
              · exact w
              · rw [w] at y
                exact n1 (Option.some.inj y.2)
            · have q1 : q ≠ p := fun y => by
                rw [y, hr] at w
                exact n2 (Option.some.inj w).symm
              refine Or.inr ?_
              rw [e2 _ g.1, if_neg q1, if_neg (fun y => ?_)]
              · exact w
              · rcases (h.pa hp y.1).2 with v | v
                · exact y.2 v
                · rw [w] at v
                  exact n1 (Option.some.inj v)
  · rw [e3 _ hn] at z
    by_cases n1 : n = p
    · rw [if_pos n1] at z
      cases z
    · rw [if_neg n1] at z
      by_cases n2 : n = r
      · rw [if_pos n2] at z
        rw [e4, if_pos z, n2]
      · rw [if_neg n2] at z
        by_cases c1 : lf r = some n
        · rw [if_pos c1] at z
          cases z
        · rw [if_neg c1] at z
          have g := h.pn hn z
          rw [e4, if_neg (fun w => ?_)]
          · exact g
          · have := h.pn hp w
            rw [g] at this
            exact n1 (Option.some.inj this)
end TISEC
