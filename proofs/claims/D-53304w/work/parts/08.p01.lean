/-! ===== plain law 1: stepping, owners, frames ===== -/
set_option maxRecDepth 100000
theorem hlet_i {α : Type} {x : α} {f : α → Prop} (h : f x) : hlet x f := h
theorem hlet_e {α : Type} {x : α} {f : α → Prop} (h : ∀ y, y = x → f y) : hlet x f := h x rfl
theorem hclt {G : hG} {a c : Nat} (h : hC G a = some (c, true)) : hcl G a c := Or.inl h
theorem hclf {G : hG} {a c : Nat} (h : hC G a = some (c, false)) : hcl G a c := Or.inr h
theorem hft0 : hFt .boolean 0 := ⟨rfl, rfl⟩
theorem hft1 : hFt .boolean 1 := ⟨rfl, rfl⟩
theorem hC_cpI {G : hG} {a dp sp n : Nat} {f : Nat → Int32} : hC (hcpI G a dp f sp n) = hC G := rfl
theorem hN_cpI {G : hG} {a dp sp n : Nat} {f : Nat → Int32} : hN (hcpI G a dp f sp n) = hN G := rfl
theorem hJ_cpI {G : hG} {a dp sp n : Nat} {f : Nat → Int32} : hJ (hcpI G a dp f sp n) = hJ G := rfl
theorem hR_cpI {G : hG} {a dp sp n : Nat} {f : Nat → Int32} : hR (hcpI G a dp f sp n) = hR G := rfl
theorem hK_cpI {G : hG} {a dp sp n : Nat} {f : Nat → Int32} : hK (hcpI G a dp f sp n) = hK G := rfl
theorem hI_cpI {G : hG} {a dp sp n b j : Nat} {f : Nat → Int32} : hI (hcpI G a dp f sp n) b j = if b = a then va_cpy f (hI G a) sp dp n j else hI G b j := rfl
theorem hC_cpR {G : hG} {a dp sp n : Nat} {f : Nat → Option Nat} : hC (hcpR G a dp f sp n) = hC G := rfl
theorem hN_cpR {G : hG} {a dp sp n : Nat} {f : Nat → Option Nat} : hN (hcpR G a dp f sp n) = hN G := rfl
theorem hI_cpR {G : hG} {a dp sp n : Nat} {f : Nat → Option Nat} : hI (hcpR G a dp f sp n) = hI G := rfl
theorem hJ_cpR {G : hG} {a dp sp n : Nat} {f : Nat → Option Nat} : hJ (hcpR G a dp f sp n) = hJ G := rfl
theorem hK_cpR {G : hG} {a dp sp n : Nat} {f : Nat → Option Nat} : hK (hcpR G a dp f sp n) = hK G := rfl
theorem hR_cpR {G : hG} {a dp sp n b j : Nat} {f : Nat → Option Nat} : hR (hcpR G a dp f sp n) b j = if b = a then va_cpy f (hR G a) sp dp n j else hR G b j := rfl
/-! owners of cells: (0, 0) those that never change again -/
abbrev gO : Type := Nat → Nat × Nat
def gU (o : gO) (q : Nat) (u : Nat × Nat) : gO := fun b => if b = q then u else o b
theorem gU_s {o : gO} {q : Nat} {u : Nat × Nat} : gU o q u q = u := if_pos rfl
theorem gU_n {o : gO} {q b : Nat} {u : Nat × Nat} (h : b ≠ q) : gU o q u b = o b := if_neg h
def gFr (M : Nat × Nat → Prop) (o : gO) (G : hG) (o' : gO) (G' : hG) : Prop := (∀ a c, hC G a = some c → hC G' a = some c ∧ o' a = o a ∧ (¬ M (o a) → hSm G G' a)) ∧ hK G' = hK G
section GFR
variable {M N : Nat × Nat → Prop} {o o' o'' : gO} {G G' G'' : hG}
theorem gFr.rf : gFr M o G o G := ⟨fun a c h => ⟨h, rfl, fun _ => hSm_rf⟩, rfl⟩
theorem gFr.tr (h : gFr M o G o' G') (h' : gFr M o' G' o'' G'') : gFr M o G o'' G'' := by
  refine ⟨fun a c hc => ?_, h'.2.trans h.2⟩
  obtain ⟨h1, h2, h3⟩ := h.1 a c hc
  obtain ⟨g1, g2, g3⟩ := h'.1 a c h1
  exact ⟨g1, g2.trans h2, fun hm => (h3 hm).tr (g3 (by rw [h2]; exact hm))⟩
theorem gFr.mono (h : gFr M o G o' G') (hm : ∀ u, M u → N u) : gFr N o G o' G' := by
  refine ⟨fun a c hc => ?_, h.2⟩
  obtain ⟨h1, h2, h3⟩ := h.1 a c hc
  exact ⟨h1, h2, fun z => h3 (fun y => z (hm _ y))⟩
theorem gFr.ne (h : gFr M o G o' G') {q b : Nat} {c : Nat × Bool} (hq : hfr G' q) (hb : hC G b = some c) : b ≠ q := by
  intro z
  subst z
  have := (h.1 _ _ hb).1
  rw [hq] at this
  cases this
theorem gFr.fresh (h : gFr M o G o' G') {q : Nat} (hq : hfr G' q) : hC G q = none := by
  cases e : hC G q with
  | none => rfl
  | some c => exact absurd rfl (h.ne hq e)
theorem gFr.sm (h : gFr M o G o' G') {G2 : hG} {a : Nat} (ha : hC G a = none ∨ M (o a)) (hc : hC G2 = hC G') (hk : hK G2 = hK G') (hs : ∀ b, b ≠ a → hSm G' G2 b) : gFr M o G o' G2 := by
  refine ⟨fun b c hb => ?_, hk.trans h.2⟩
  obtain ⟨h1, h2, h3⟩ := h.1 b c hb
  refine ⟨by rw [hc]; exact h1, h2, fun hm => ?_⟩
  by_cases e : b = a
  · subst e
    rcases ha with ha | ha
    · rw [ha] at hb
      cases hb
    · exact absurd ha hm
  · exact (h3 hm).tr (hs b e)
theorem gFr.sI (h : gFr M o G o' G') {a k : Nat} {x : Int32} (ha : hC G a = none ∨ M (o a)) : gFr M o G o' (hsI G' a k x) := h.sm ha rfl rfl fun _ e => hSm_sI e
theorem gFr.sJ (h : gFr M o G o' G') {a k : Nat} {x : Int64} (ha : hC G a = none ∨ M (o a)) : gFr M o G o' (hsJ G' a k x) := h.sm ha rfl rfl fun _ e => hSm_sJ e
theorem gFr.sR (h : gFr M o G o' G') {a k : Nat} {x : Option Nat} (ha : hC G a = none ∨ M (o a)) : gFr M o G o' (hsR G' a k x) := h.sm ha rfl rfl fun _ e => hSm_sR e
theorem gFr.cpI (h : gFr M o G o' G') {a dp sp n : Nat} {f : Nat → Int32} (ha : hC G a = none ∨ M (o a)) : gFr M o G o' (hcpI G' a dp f sp n) := h.sm ha rfl rfl fun _ e => hSm_cpI e
theorem gFr.cpR (h : gFr M o G o' G') {a dp sp n : Nat} {f : Nat → Option Nat} (ha : hC G a = none ∨ M (o a)) : gFr M o G o' (hcpR G' a dp f sp n) := h.sm ha rfl rfl fun _ e => hSm_cpR e
theorem gFr.nw (h : gFr M o G o' G') {q ci n : Nat} (u : Nat × Nat) (hq : hfr G' q) : gFr M o G (gU o' q u) (hnw G' q ci n) := by
  refine ⟨fun b c hb => ?_, h.2⟩
  have e := h.ne hq hb
  obtain ⟨h1, h2, h3⟩ := h.1 b c hb
  exact ⟨by rw [hC_nw, if_neg e]; exact h1, by rw [gU_n e]; exact h2, fun hm => (h3 hm).tr (hSm_nw e)⟩
theorem gFr.C (h : gFr M o G o' G') {a : Nat} {c : Nat × Bool} (hc : hC G a = some c) : hC G' a = some c := (h.1 a c hc).1
theorem gFr.O (h : gFr M o G o' G') {a : Nat} {c : Nat × Bool} (hc : hC G a = some c) : o' a = o a := (h.1 a c hc).2.1
theorem gFr.S (h : gFr M o G o' G') {a : Nat} {c : Nat × Bool} {u : Nat × Nat} (hc : hC G a = some c) (ho : o a = u) (hm : ¬ M u) : hSm G G' a := (h.1 a c hc).2.2 (by rw [ho]; exact hm)
theorem gFr.cl (h : gFr M o G o' G') {a c : Nat} (hc : hcl G a c) : hcl G' a c := by
  rcases hc with hc | hc
  · exact Or.inl (h.C hc)
  · exact Or.inr (h.C hc)
end GFR
theorem hSm.I {G G' : hG} {a k : Nat} {x : Int32} (h : hSm G G' a) (e : hI G a k = x) : hI G' a k = x := by rw [h.2.1]; exact e
theorem hSm.J {G G' : hG} {a k : Nat} {x : Int64} (h : hSm G G' a) (e : hJ G a k = x) : hJ G' a k = x := by rw [h.2.2.1]; exact e
theorem hSm.R {G G' : hG} {a k : Nat} {x : Option Nat} (h : hSm G G' a) (e : hR G a k = x) : hR G' a k = x := by rw [h.2.2.2]; exact e
theorem hSm.N {G G' : hG} {a : Nat} {x : Nat} (h : hSm G G' a) (e : hN G a = x) : hN G' a = x := by rw [h.1]; exact e
/-! numbers -/
theorem l0n {m : Nat} (h : m < 2 ^ 64) : lN m = 0 ↔ m = 0 := by
  constructor
  · intro e
    have h1 : (lN m).toBitVec.toNat = (0 : Int64).toBitVec.toNat := by rw [e]
    rw [wb_tn h] at h1
    exact h1
  · intro e
    rw [e]
    rfl
theorem nI_c {n : Nat} (h : n < 2 ^ 31) : Int32.toNatClampNeg (nI n) = n := nI_clamp h
theorem nI_e0 {n : Nat} (h : n < 2 ^ 31) : nI n = 0 ↔ n = 0 := by
  rw [show (0 : Int32) = nI 0 from rfl, nI_eq h (by decide)]
theorem nI_sub {a b : Nat} (h : b ≤ a) : nI a - nI b = nI (a - b) := pk_sub h
theorem lN_inj {a b : Nat} (ha : a < 2 ^ 64) (hb : b < 2 ^ 64) : lN a = lN b ↔ a = b := by
  constructor
  · intro e
    have h1 : (lN a).toBitVec.toNat = (lN b).toBitVec.toNat := by rw [e]
    rw [wb_tn ha, wb_tn hb] at h1
    exact h1
  · intro e
    rw [e]
