/-! ===== plain law 9: TreeMap: a new node; put ===== -/
set_option maxRecDepth 100000
section TI9
variable {lf rt pr lf' rt' pr' : Nat → Option Nat} {sub : Nat → List Nat} {A B : List Nat} {root : Option Nat} {q e : Nat}
theorem TI.insL (h : TI lf rt pr sub (A ++ q :: B) root) (he : e ∉ A ++ q :: B) (hl : lf q = none) (e1 : ∀ b, b ∈ A ++ q :: B → lf' b = if b = q then some e else lf b) (e1' : lf' e = none) (e2 : ∀ b, b ∈ A ++ q :: B → rt' b = rt b) (e2' : rt' e = none) (e3 : ∀ b, b ∈ A ++ q :: B → pr' b = pr b) (e3' : pr' e = some q) : ∃ sub', TI lf' rt' pr' sub' (A ++ e :: q :: B) root := by
  obtain ⟨f, hf⟩ : ∃ f : Nat → List Nat, f = fun x => if x = q then [e, q] else [x] := ⟨_, rfl⟩
  have hid : ∀ X : List Nat, q ∉ X → X.flatMap f = X := by
    intro X
    induction X with
    | nil => intro _; rfl
    | cons x X ih =>
      intro hq
      rw [List.flatMap_cons, ih (fun z => hq (List.mem_cons_of_mem _ z)), hf]
      have : x ≠ q := fun z => hq (by rw [z]; exact List.mem_cons_self)
      simp [this]
  have hnd := h.nd
  have hqA : q ∉ A := fun z => (List.nodup_append.mp hnd).2.2 q z q List.mem_cons_self rfl
  have hqB : q ∉ B := (List.nodup_cons.mp (List.nodup_append.mp hnd).2.1).1
  have hq : q ∈ A ++ q :: B := by simp
  have hfq : f q = [e, q] := by rw [hf]; simp
  have hfn : ∀ n, n ≠ q → f n = [n] := fun n z => by rw [hf]; simp [z]
  have hins : (A ++ q :: B).flatMap f = A ++ e :: q :: B := by
    rw [List.flatMap_append, List.flatMap_cons, hid A hqA, hid B hqB, hfq]
    rfl
  have mem : ∀ n, n ∈ A ++ e :: q :: B ↔ n = e ∨ n ∈ A ++ q :: B := fun n => by
    simp only [List.mem_append, List.mem_cons]
    constructor
    · rintro (z | z | z | z)
      · exact Or.inr (Or.inl z)
      · exact Or.inl z
      · exact Or.inr (Or.inr (Or.inl z))
      · exact Or.inr (Or.inr (Or.inr z))
    · rintro (z | z | z | z)
      · exact Or.inr (Or.inl z)
      · exact Or.inl z
      · exact Or.inr (Or.inr (Or.inl z))
      · exact Or.inr (Or.inr (Or.inr z))
  obtain ⟨sub', hs⟩ : ∃ sub' : Nat → List Nat, sub' = fun n => if n = e then [e] else (sub n).flatMap f := ⟨_, rfl⟩
  have hse : sub' e = [e] := by rw [hs]; simp
  have hsn : ∀ n, n ∈ A ++ q :: B → sub' n = (sub n).flatMap f := fun n hn => by
    have : n ≠ e := fun z => he (by rw [← z]; exact hn)
    rw [hs]
    simp [this]
  have hso : ∀ x : Option Nat, (∀ c, x = some c → c ∈ A ++ q :: B) → so sub' x = (so sub x).flatMap f := fun x hx => by
    cases x with
    | none => rfl
    | some c => exact hsn c (hx c rfl)
  refine ⟨sub', ?_, ?_, fun r z => ?_, fun n hn => ?_, fun n hn => ?_, fun n c hn z => ?_, fun n c hn z => ?_, fun n p hn z => ?_, fun n hn z => ?_⟩
  · exact (List.perm_middle.nodup_iff).mpr (List.nodup_cons.mpr ⟨he, hnd⟩)
  · rw [hso root (fun c z => (h.rp z).1), h.ro, hins]
  · have g := h.rp z
    exact ⟨(mem r).mpr (Or.inr g.1), by rw [e3 _ g.1]; exact g.2⟩
  · rcases (mem n).mp hn with z | z
    · rw [z, e1', e2', hse]
      rfl
    · rw [hsn n z, e2 n z, hso (rt n) (fun c w => (h.rc z w).1), h.eq z, List.flatMap_append, List.flatMap_cons]
      by_cases c : n = q
      · rw [e1 n z, if_pos c]
        show _ = sub' e ++ _
        rw [hse, c, hl, hfq]
        rfl
      · rw [e1 n z, if_neg c, hso (lf n) (fun c w => (h.lc z w).1), hfn n c]
        rfl
  · rcases (mem n).mp hn with z | z
    · rw [z, hse]
      exact ⟨A, q :: B, by simp⟩
    · obtain ⟨A1, B1, hL⟩ := h.inf z
      rw [hsn n z, ← hins, hL, List.flatMap_append, List.flatMap_append]
      exact ⟨_, _, rfl⟩
  · rcases (mem n).mp hn with w | w
    · rw [w, e1'] at z
      cases z
    · rw [e1 n w] at z
      by_cases c1 : n = q
      · rw [if_pos c1] at z
        cases z
        exact ⟨(mem e).mpr (Or.inl rfl), by rw [c1]; exact e3'⟩
      · rw [if_neg c1] at z
        have g := h.lc w z
        exact ⟨(mem c).mpr (Or.inr g.1), by rw [e3 _ g.1]; exact g.2⟩
  · rcases (mem n).mp hn with w | w
    · rw [w, e2'] at z
      cases z
    · rw [e2 n w] at z
      have g := h.rc w z
      exact ⟨(mem c).mpr (Or.inr g.1), by rw [e3 _ g.1]; exact g.2⟩
  · rcases (mem n).mp hn with w | w
    · rw [w, e3'] at z
      cases z
      exact ⟨(mem q).mpr (Or.inr hq), Or.inl (by rw [e1 q hq, if_pos rfl, w])⟩
    · rw [e3 n w] at z
      have g := h.pa w z
      refine ⟨(mem p).mpr (Or.inr g.1), ?_⟩
      rcases g.2 with y | y
      · refine Or.inl ?_
        rw [e1 p g.1, if_neg (fun x => by rw [x, hl] at y; cases y)]
        exact y
      · refine Or.inr ?_
        rw [e2 p g.1]
        exact y
  · rcases (mem n).mp hn with w | w
    · rw [w, e3'] at z
      cases z
    · rw [e3 n w] at z
      exact h.pn w z
theorem TI.insR (h : TI lf rt pr sub (A ++ q :: B) root) (he : e ∉ A ++ q :: B) (hl : rt q = none) (e1 : ∀ b, b ∈ A ++ q :: B → rt' b = if b = q then some e else rt b) (e1' : rt' e = none) (e2 : ∀ b, b ∈ A ++ q :: B → lf' b = lf b) (e2' : lf' e = none) (e3 : ∀ b, b ∈ A ++ q :: B → pr' b = pr b) (e3' : pr' e = some q) : ∃ sub', TI lf' rt' pr' sub' (A ++ q :: e :: B) root := by
  have hrev : (A ++ q :: B).reverse = B.reverse ++ q :: A.reverse := by simp
  have hm := h.mir
  rw [hrev] at hm
  have mm : ∀ b, b ∈ B.reverse ++ q :: A.reverse → b ∈ A ++ q :: B := fun b z => by
    rw [← hrev] at z
    exact List.mem_reverse.mp z
  obtain ⟨sub', h'⟩ := TI.insL (lf' := rt') (rt' := lf') (pr' := pr') hm (fun z => he (mm e z)) hl (fun b hb => e1 b (mm b hb)) e1' (fun b hb => e2 b (mm b hb)) e2' (fun b hb => e3 b (mm b hb)) e3'
  have h2 := h'.mir
  have hr2 : (B.reverse ++ e :: q :: A.reverse).reverse = A ++ q :: e :: B := by simp
  rw [hr2] at h2
  exact ⟨_, h2⟩
end TI9
def fu {α : Type} (f : Nat → α) (q : Nat) (x : α) : Nat → α := fun n => if n = q then x else f n
theorem fu_s {α : Type} {f : Nat → α} {q : Nat} {x : α} : fu f q x q = x := if_pos rfl
theorem fu_n {α : Type} {f : Nat → α} {q n : Nat} {x : α} (h : n ≠ q) : fu f q x n = f n := if_neg h
theorem pw_ins {A B : List Nat} {q : Nat} {k : Nat → Wd} {key : Wd} (h : (A ++ B).Pairwise (kLt k)) (hq : q ∉ A ++ B) (hA : ∀ x, x ∈ A → wlt (k x) key = true) (hB : ∀ y, y ∈ B → wlt key (k y) = true) : (A ++ q :: B).Pairwise (kLt (fu k q key)) := by
  obtain ⟨h1, h2, h3⟩ := List.pairwise_append.mp h
  have nA : ∀ x, x ∈ A → fu k q key x = k x := fun x hx => fu_n (fun z => hq (by rw [← z]; exact List.mem_append_left _ hx))
  have nB : ∀ x, x ∈ B → fu k q key x = k x := fun x hx => fu_n (fun z => hq (by rw [← z]; exact List.mem_append_right _ hx))
  refine List.pairwise_append.mpr ⟨?_, List.pairwise_cons.mpr ⟨fun y hy => ?_, ?_⟩, fun x hx y hy => ?_⟩
  · refine h1.imp_of_mem fun {x y} hx hy z => ?_
    show wlt _ _ = true
    rw [nA x hx, nA y hy]
    exact z
  · show wlt _ _ = true
    rw [fu_s, nB y hy]
    exact hB y hy
  · refine h2.imp_of_mem fun {x y} hx hy z => ?_
    show wlt _ _ = true
    rw [nB x hx, nB y hy]
    exact z
  · show wlt _ _ = true
    rcases List.mem_cons.mp hy with z | z
    · rw [z, fu_s, nA x hx]
      exact hA x hx
    · rw [nA x hx, nB y z]
      exact h3 x hx y z
section PTM9
variable {o o' : gO} {G G' : hG} {u : Nat × Nat} {t s s' : Nat} {L : List Nat} {k : Nat → Wd} {v : Nat → Option Nat} {sub sub' : Nat → List Nat} {root root' : Option Nat}
/-- the heap behind 'new Entry(key, value, parent)' -/
theorem s_newE {Q : hG → Prop} {q : Nat} {x y z : Option Nat} (hc : hC G q = some (10, true)) (hQ : Q (hsR (hsR (hsR (hsI G q 5 1) q 0 x) q 1 y) q 4 z)) : wJ22_init Q q x y z G := by
  unfold wJ22_init
  exact ⟨hc, hlet_i ⟨hc, hlet_i ⟨hc, hlet_i ⟨hc, hlet_i hQ⟩⟩⟩⟩
/-- the number of entries grows -/
theorem s_b32 {Q : hG → Prop} {q : Nat} (h : pTM o G u t s L k v sub root) (hu : u ≠ (0, 0)) (hq : q ∈ L) (hQ : ∀ G' sub' root', pTM o G' u t (s + 1) L k v sub' root' → gFr (gOnly u) o G o G' → Q G') : wJ1_addEntry_b32 Q t q G := by
  unfold wJ1_addEntry_b32
  refine ⟨hclt h.c, s_fixI h hu hq fun G2 sub2 root2 h2 f2 t2 => ⟨hclt h2.c, h2.c, hlet_i ⟨hclt h2.c, h2.c, hlet_i ?_⟩⟩⟩
  rw [h2.sz, show nI s + 1 = nI (s + 1) from nI_1 s]
  have f3 : gFr (gOnly u) o G o (hsI (hsI G2 t 4 (nI (s + 1))) t 5 (hI (hsI G2 t 4 (nI (s + 1))) t 5 + 1)) := (f2.sI (Or.inr h.ow)).sI (Or.inr h.ow)
  have f4 : gFr (gOnly u) o G2 o (hsI (hsI G2 t 4 (nI (s + 1))) t 5 (hI (hsI G2 t 4 (nI (s + 1))) t 5 + 1)) := (gFr.rf.sI (Or.inr h.ow)).sI (Or.inr h.ow)
  refine hQ _ sub2 root2 (h2.up hu f4 ?_ rfl h2.rt (fun _ _ => rfl) (fun _ _ => rfl) (fun n hn => ?_) h2.ti rfl rfl rfl) f3
  · rw [hI_sI, if_neg (fun z => by have := z.2; omega), hI_sI, if_pos ⟨rfl, rfl⟩]
  · have nt : n ≠ t := fun z => h.nt (by rw [← z]; exact hn)
    rw [hI_sI, if_neg (fun z => nt z.1), hI_sI, if_neg (fun z => nt z.1)]
    exact h2.col5 hn
/-- a new node q beside p is linked: the map with it -/
theorem pTM.link {A B : List Nat} {q p a : Nat} {key : Wd} {x : Option Nat} {lr : Nat} (h : pTM o G u t s (A ++ B) k v sub root) (hu : u ≠ (0, 0)) (hlen : (A ++ B).length < 1000) (hq : hfr G q) (hk : pW o G a key)
    (hlr : (lr = 2 ∧ hR G p 2 = none ∧ ∃ B', B = p :: B') ∨ (lr = 3 ∧ hR G p 3 = none ∧ ∃ A', A = A' ++ [p])) :
    ∃ sub', pTM (gU o q u) (hsR (hsR (hsR (hsR (hsI (hnw G q 10 0) q 5 1) q 0 (some a)) q 1 x) q 4 (some p)) p lr (some q)) u t s (A ++ q :: B) (fu k q key) (fu v q x) sub' root ∧ gFr (gOnly u) o G (gU o q u) (hsR (hsR (hsR (hsR (hsI (hnw G q 10 0) q 5 1) q 0 (some a)) q 1 x) q 4 (some p)) p lr (some q)) := by
  have h0 : ¬ gOnly u (0, 0) := fun z => hu z.symm
  have hpL : p ∈ A ++ B := by
    rcases hlr with ⟨-, -, B', z⟩ | ⟨-, -, A', z⟩ <;> rw [z] <;> simp
  have hqL : q ∉ A ++ B := fun z => by
    have := h.nc z
    rw [hq] at this
    cases this
  have hqt : t ≠ q := fun z => by
    have := h.c
    rw [z, hq] at this
    cases this
  have hpq : p ≠ q := fun z => hqL (by rw [← z]; exact hpL)
  have hpt : t ≠ p := fun z => h.nt (by rw [z]; exact hpL)
  have lr0 : lr = 2 ∨ lr = 3 := by
    rcases hlr with z | z
    · exact Or.inl z.1
    · exact Or.inr z.1
  obtain ⟨G2, hG2⟩ : ∃ G2, G2 = hsR (hsR (hsR (hsR (hsI (hnw G q 10 0) q 5 1) q 0 (some a)) q 1 x) q 4 (some p)) p lr (some q) := ⟨_, rfl⟩
  have hf : gFr (gOnly u) o G (gU o q u) G2 := by
    rw [hG2]
    exact (((((gFr.rf.nw u hq).sI (Or.inl hq)).sR (Or.inl hq)).sR (Or.inl hq)).sR (Or.inl hq)).sR (Or.inr (h.no hpL))
  rw [← hG2]
  have rr : ∀ b j, hR G2 b j = if b = p ∧ j = lr then some q else if b = q ∧ j = 4 then some p else if b = q ∧ j = 1 then x else if b = q ∧ j = 0 then some a else if b = q then none else hR G b j := by
    intro b j
    rw [hG2, hR_sR, hR_sR, hR_sR, hR_sR, hR_sI, hR_nw]
  have hIq : hI G2 q 5 = 1 := by rw [hG2, hI_sR, hI_sR, hI_sR, hI_sR, hI_sI, if_pos ⟨rfl, rfl⟩]
  have rn : ∀ b j, b ≠ q → (b ≠ p ∨ j ≠ lr) → hR G2 b j = hR G b j := by
    intro b j h1 h2
    rw [rr, if_neg (fun z => by rcases h2 with w | w; exact w z.1; exact w z.2), if_neg (fun z => h1 z.1), if_neg (fun z => h1 z.1), if_neg (fun z => h1 z.1), if_neg h1]
  have bq : ∀ b, b ∈ A ++ B → b ≠ q := fun b hb z => hqL (by rw [← z]; exact hb)
  have ti : ∃ sub', TI (fl G2 2) (fl G2 3) (fl G2 4) sub' (A ++ q :: B) root := by
    rcases hlr with ⟨e1, e2, B', e3⟩ | ⟨e1, e2, A', e3⟩
    · rw [e3] at h hqL bq ⊢
      refine TI.insL h.ti hqL e2 (fun b hb => ?_) ?_ (fun b hb => ?_) ?_ (fun b hb => ?_) ?_
      · show hR G2 b 2 = _
        by_cases c : b = p
        · rw [if_pos c, rr, if_pos ⟨c, e1.symm⟩]
        · rw [if_neg c, rn b 2 (bq b hb) (Or.inl c)]
      · show hR G2 q 2 = none
        rw [rr, if_neg (fun z => hpq z.1.symm), if_neg (fun z => by have := z.2; omega), if_neg (fun z => by have := z.2; omega), if_neg (fun z => by have := z.2; omega), if_pos rfl]
      · exact rn b 3 (bq b hb) (Or.inr (by omega))
      · show hR G2 q 3 = none
        rw [rr, if_neg (fun z => hpq z.1.symm), if_neg (fun z => by have := z.2; omega), if_neg (fun z => by have := z.2; omega), if_neg (fun z => by have := z.2; omega), if_pos rfl]
      · exact rn b 4 (bq b hb) (Or.inr (by omega))
      · show hR G2 q 4 = some p
        rw [rr, if_neg (fun z => hpq z.1.symm), if_pos ⟨rfl, rfl⟩]
    · have e4 : A ++ B = A' ++ p :: B := by rw [e3]; simp
      have e5 : A ++ q :: B = A' ++ p :: q :: B := by rw [e3]; simp
      rw [e5]
      have hti := h.ti
      rw [e4] at hti hqL bq
      refine TI.insR hti hqL e2 (fun b hb => ?_) ?_ (fun b hb => ?_) ?_ (fun b hb => ?_) ?_
      · show hR G2 b 3 = _
        by_cases c : b = p
        · rw [if_pos c, rr, if_pos ⟨c, e1.symm⟩]
        · rw [if_neg c, rn b 3 (bq b hb) (Or.inl c)]
      · show hR G2 q 3 = none
        rw [rr, if_neg (fun z => hpq z.1.symm), if_neg (fun z => by have := z.2; omega), if_neg (fun z => by have := z.2; omega), if_neg (fun z => by have := z.2; omega), if_pos rfl]
      · exact rn b 2 (bq b hb) (Or.inr (by omega))
      · show hR G2 q 2 = none
        rw [rr, if_neg (fun z => hpq z.1.symm), if_neg (fun z => by have := z.2; omega), if_neg (fun z => by have := z.2; omega), if_neg (fun z => by have := z.2; omega), if_pos rfl]
      · exact rn b 4 (bq b hb) (Or.inr (by omega))
      · show hR G2 q 4 = some p
        rw [rr, if_neg (fun z => hpq z.1.symm), if_pos ⟨rfl, rfl⟩]
  obtain ⟨sub', ti⟩ := ti
  have mem : ∀ n, n ∈ A ++ q :: B → n = q ∨ n ∈ A ++ B := fun n hn => by
    simp only [List.mem_append, List.mem_cons] at hn ⊢
    rcases hn with z | z | z
    · exact Or.inr (Or.inl z)
    · exact Or.inl z
    · exact Or.inr (Or.inr z)
  have hIt : ∀ b j, b ≠ q → hI G2 b j = hI G b j := fun b j z => by rw [hG2, hI_sR, hI_sR, hI_sR, hI_sR, hI_sI, if_neg (fun w => z w.1), hI_nw, if_neg z]
  refine ⟨sub', ⟨hf.C h.c, (hf.O h.c).trans h.ow, (hIt t 4 hqt).trans h.sz, (rn t 2 hqt (Or.inl hpt)).trans h.cmp, (rn t 3 hqt (Or.inl hpt)).trans h.rt, fun z => ?_, ?_, fun n hn => ?_, ti, ?_⟩, hf⟩
  · rcases mem t z with w | w
    · exact hqt w
    · exact h.nt w
  · rw [List.length_append, List.length_cons]
    rw [List.length_append] at hlen
    omega
  · rcases mem n hn with w | w
    · rw [w, fu_s, fu_s]
      refine ⟨?_, gU_s, ⟨a, ?_, hk.fr hf h0⟩, ?_, Or.inr hIq⟩
      · rw [hG2, hC_sR, hC_sR, hC_sR, hC_sR, hC_sI, hC_nw, if_pos rfl]
      · rw [rr, if_neg (fun z => hpq z.1.symm), if_neg (fun z => by have := z.2; omega), if_neg (fun z => by have := z.2; omega), if_pos ⟨rfl, rfl⟩]
      · rw [rr, if_neg (fun z => hpq z.1.symm), if_neg (fun z => by have := z.2; omega), if_pos ⟨rfl, rfl⟩]
    · have nq := bq n w
      obtain ⟨a1, a2, ⟨a', a3, a4⟩, a5, a6⟩ := h.nd n w
      rw [fu_n nq, fu_n nq]
      refine ⟨hf.C a1, (hf.O a1).trans a2, ⟨a', (rn n 0 nq (Or.inr (by omega))).trans a3, a4.fr hf h0⟩, (rn n 1 nq (Or.inr (by omega))).trans a5, ?_⟩
      rw [hIt n 5 nq]
      exact a6
  · have key : ∀ (j ci : Nat), (∀ q, hR G t j = some q → hC G q = some (ci, true) ∧ o q = (0, 0) ∧ hR G q 0 = some t) → (∀ q', hR G2 t j = some q' → hC G2 q' = some (ci, true) ∧ gU o q u q' = (0, 0) ∧ hR G2 q' 0 = some t) := by
      intro j ci g q' e
      rw [rn t j hqt (Or.inl hpt)] at e
      obtain ⟨b1, b2, b3⟩ := g q' e
      exact ⟨hf.C b1, (hf.O b1).trans b2, (hf.S b1 b2 h0).R b3⟩
    exact ⟨key 6 16 h.vw.1, key 7 14 h.vw.2.1, key 1 15 h.vw.2.2⟩
theorem s_addEntry {Q : hG → Prop} {A B : List Nat} {p a : Nat} {key : Wd} {x : Option Nat} {lr : Int32} (h : pTM o G u t s (A ++ B) k v sub root) (hu : u ≠ (0, 0)) (hlen : (A ++ B).length < 1000) (hk : pW o G a key)
    (hlr : (lr = 1 ∧ hR G p 2 = none ∧ ∃ B', B = p :: B') ∨ (lr = 0 ∧ hR G p 3 = none ∧ ∃ A', A = A' ++ [p]))
    (hQ : ∀ o' G' sub' root' q, q ∉ A ++ B → pTM o' G' u t (s + 1) (A ++ q :: B) (fu k q key) (fu v q x) sub' root' → gFr (gOnly u) o G o' G' → Q G') : wJ1_addEntry Q t (some a) x (some p) lr G := by
  have hpL : p ∈ A ++ B := by
    rcases hlr with ⟨-, -, B', z⟩ | ⟨-, -, A', z⟩ <;> rw [z] <;> simp
  unfold wJ1_addEntry
  intro q hq
  have hqL : q ∉ A ++ B := fun z => by
    have := h.nc z
    rw [hq] at this
    cases this
  have hpq : p ≠ q := fun z => hqL (by rw [← z]; exact hpL)
  refine hlet_i (s_newE (by rw [hC_nw, if_pos rfl]) ?_)
  have cp : hC (hsR (hsR (hsR (hsI (hnw G q 10 0) q 5 1) q 0 (some a)) q 1 x) q 4 (some p)) p = some (10, true) := by
    rw [hC_sR, hC_sR, hC_sR, hC_sI, hC_nw, if_neg hpq]
    exact h.nc hpL
  rcases hlr with ⟨e1, e2, e3⟩ | ⟨e1, e2, e3⟩
  · rw [e1]
    obtain ⟨sub', h', f'⟩ := h.link (q := q) (x := x) hu hlen hq hk (lr := 2) (Or.inl ⟨rfl, e2, e3⟩)
    refine br_f (by decide) ⟨p, rfl, cp, hlet_i (s_b32 h' hu (by simp) fun G3 sub3 root3 h3 f3 => ?_)⟩
    exact hQ _ _ _ _ q hqL h3 (f'.tr f3)
  · rw [e1]
    obtain ⟨sub', h', f'⟩ := h.link (q := q) (x := x) hu hlen hq hk (lr := 3) (Or.inr ⟨rfl, e2, e3⟩)
    refine br_t rfl ⟨p, rfl, cp, hlet_i (s_b32 h' hu (by simp) fun G3 sub3 root3 h3 f3 => ?_)⟩
    exact hQ _ _ _ _ q hqL h3 (f'.tr f3)
end PTM9
