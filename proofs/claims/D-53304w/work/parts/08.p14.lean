/-! ===== plain law 14: TreeMap.remove, maps as lists of entries ===== -/
set_option maxRecDepth 100000
section PTM14
variable {o o' : gO} {G G' : hG} {u : Nat × Nat} {t s s' : Nat} {L L' : List Nat} {k k' : Nat → Wd} {v v' : Nat → Option Nat} {sub sub' : Nat → List Nat} {root root' : Option Nat}
theorem s_succR_l {Q : hG → Option Nat → Prop} (h : pTM o G u t s L k v sub root) : ∀ (d m : Nat), (sub m).length ≤ d → m ∈ L → (∀ x X, sub m = x :: X → x ∈ L → hR G x 2 = none → Q G (some x)) → ∃ n, wJ1_successor_l18 Q n (some m) G := by
  intro d
  induction d with
  | zero =>
    intro m hd hm _
    exact absurd (List.eq_nil_of_length_eq_zero (by omega)) (so_ne h.ti hm)
  | succ d ih =>
    intro m hd hm hQ
    have hs : sub m = so sub (hR G m 2) ++ m :: so sub (hR G m 3) := h.ti.eq hm
    cases e : hR G m 2 with
    | none =>
      refine ⟨1, ?_⟩
      show wJ1_successor_b18 Q _ _ _
      unfold wJ1_successor_b18
      refine ⟨m, rfl, hclt (h.nc hm), hlet_i ?_⟩
      rw [e]
      refine cm_none (hQ m (so sub (hR G m 3)) ?_ hm e)
      rw [hs, e]
      rfl
    | some c =>
      have hc := h.ti.lc hm e
      have hl := h.ti.llt hm e
      have hs2 : sub m = sub c ++ m :: so sub (hR G m 3) := h.ti.lsub hm e
      obtain ⟨n, hn⟩ := ih c (by omega) hc.1 (fun x X hx h1 h2 => hQ x (X ++ m :: so sub (hR G m 3)) (by rw [hs2, hx]; rfl) h1 h2)
      refine ⟨n + 1, ?_⟩
      show wJ1_successor_b18 Q (wJ1_successor_l18 Q n) _ _
      unfold wJ1_successor_b18
      refine ⟨m, rfl, hclt (h.nc hm), hlet_i ?_⟩
      rw [e]
      exact cm_some ⟨hclt (h.nc hm), hlet_i hn⟩
theorem s_succR {Q : hG → Option Nat → Prop} (h : pTM o G u t s L k v sub root) {m c : Nat} (hm : m ∈ L) (hc : hR G m 3 = some c) (hQ : ∀ x X, sub c = x :: X → x ∈ L → hR G x 2 = none → Q G (some x)) : wJ1_successor Q (some m) G := by
  unfold wJ1_successor
  refine cm_some ⟨hclt (h.nc hm), hlet_i ?_⟩
  rw [hc]
  exact cm_some ⟨hclt (h.nc hm), hlet_i (s_succR_l h _ c (Nat.le_refl _) (h.ti.rc hm hc).1 hQ)⟩
theorem pTM.key (h : pTM o G u t s L k v sub root) (hu : u ≠ (0, 0)) {n a : Nat} {w : Wd} (hn : n ∈ L) (ha : pW o G a w) : pTM o (hsR G n 0 (some a)) u t s L (fu k n w) v sub root := by
  have h0 : ¬ gOnly u (0, 0) := fun z => hu z.symm
  have hf : gFr (gOnly u) o G o (hsR G n 0 (some a)) := gFr.rf.sR (Or.inr (h.no hn))
  have nt : t ≠ n := fun z => h.nt (by rw [z]; exact hn)
  have rj : ∀ b j, j ≠ 0 → hR (hsR G n 0 (some a)) b j = hR G b j := fun b j z => by rw [hR_sR, if_neg (fun w => z w.2)]
  have rb : ∀ b j, b ≠ n → hR (hsR G n 0 (some a)) b j = hR G b j := fun b j z => by rw [hR_sR, if_neg (fun w => z w.1)]
  refine ⟨h.c, h.ow, h.sz, (rb t 2 nt).trans h.cmp, (rb t 3 nt).trans h.rt, h.nt, h.len, fun b hb => ?_, h.ti.congr (fun b _ => rj b 2 (by decide)) (fun b _ => rj b 3 (by decide)) (fun b _ => rj b 4 (by decide)), h.vw.fr hf ⟨rfl, rfl, rfl, funext fun j => rb t j nt⟩ h0⟩
  obtain ⟨a1, a2, ⟨a', a3, a4⟩, a5, a6⟩ := h.nd b hb
  refine ⟨a1, a2, ?_, (rj b 1 (by decide)).trans a5, a6⟩
  by_cases c : b = n
  · rw [c, fu_s]
    exact ⟨a, by rw [hR_sR, if_pos ⟨rfl, rfl⟩], ha.fr hf h0⟩
  · rw [fu_n c]
    exact ⟨a', (rb b 0 c).trans a3, a4.fr hf h0⟩
theorem rmv_mid {A B : List Nat} {p : Nat} (h : (A ++ p :: B).Nodup) : rmv p (A ++ p :: B) = A ++ B := by
  have hA : p ∉ A := fun z => (List.nodup_append.mp h).2.2 p z p List.mem_cons_self rfl
  have hB : p ∉ B := (List.nodup_cons.mp (List.nodup_append.mp h).2.1).1
  rw [rmv_app, rmv_s, rmv_id hA, rmv_id hB]
theorem s_deleteEntry {Q : hG → Prop} {A B : List Nat} {p : Nat} (h : pTM o G u t L.length L k v sub root) (hu : u ≠ (0, 0)) (hL : L = A ++ p :: B) (hQ : ∀ G' L' k' v' sub' root', pTM o G' u t L'.length L' k' v' sub' root' → L'.map (fun n => (k' n, v' n)) = (A ++ B).map (fun n => (k n, v n)) → gFr (gOnly u) o G o G' → Q G') : wJ1_deleteEntry Q t (some p) G := by
  have hp : p ∈ L := by rw [hL]; simp
  have hnd := h.ti.nd
  have hlen : (A ++ B).length = L.length - 1 := by rw [hL]; simp
  have hl0 : 1 ≤ L.length := by
    rw [hL, List.length_append, List.length_cons]
    omega
  have h0 : ¬ gOnly u (0, 0) := fun z => hu z.symm
  unfold wJ1_deleteEntry
  refine ⟨hclt h.c, h.c, hlet_i ⟨hclt h.c, h.c, hlet_i ?_⟩⟩
  obtain ⟨G2, hG2⟩ : ∃ G2, G2 = hsI (hsI G t 5 (hI G t 5 + 1)) t 4 (hI (hsI G t 5 (hI G t 5 + 1)) t 4 - 1) := ⟨_, rfl⟩
  rw [← hG2]
  have f2 : gFr (gOnly u) o G o G2 := by
    rw [hG2]
    exact (gFr.rf.sI (Or.inr h.ow)).sI (Or.inr h.ow)
  have rR : hR G2 = hR G := by rw [hG2]; rfl
  have h2 : pTM o G2 u t (L.length - 1) L k v sub root := by
    refine h.up hu f2 ?_ (by rw [rR]) (by rw [rR]; exact h.rt) (fun _ _ => by rw [rR]) (fun _ _ => by rw [rR]) (fun n hn => ?_) (by rw [show fl G2 = fl G from by unfold fl; rw [rR]]; exact h.ti) (by rw [rR]) (by rw [rR]) (by rw [rR])
    · rw [hG2, hI_sI, if_pos ⟨rfl, rfl⟩, hI_sI, if_neg (fun z => by have := z.2; omega), h.sz, show (1 : Int32) = nI 1 from rfl, nI_sub hl0]
    · have nt : n ≠ t := fun z => h.nt (by rw [← z]; exact hn)
      rw [hG2, hI_sI, if_neg (fun z => nt z.1), hI_sI, if_neg (fun z => nt z.1)]
      exact h.col5 hn
  have simple : (hR G p 2 = none ∨ hR G p 3 = none) → wJ1_deleteEntry_b57 Q t p G2 := fun hone => by
    refine s_b57 h2 hu hp (by rw [rR]; exact hone) fun G' sub' root' a1 a2 => ?_
    have hr : rmv p L = A ++ B := by rw [hL]; exact rmv_mid (by rw [← hL]; exact hnd)
    rw [hr, ← hlen] at a1
    exact hQ G' (A ++ B) k v sub' root' a1 rfl (f2.tr a2)
  refine ⟨p, rfl, hclt (h2.nc hp), hlet_i ?_⟩
  rw [rR]
  cases e2 : hR G p 2 with
  | none => exact cm_none (simple (Or.inl e2))
  | some l =>
    refine cm_some ⟨hclt (h2.nc hp), hlet_i ?_⟩
    cases e3 : hR G p 3 with
    | none => exact cm_none (simple (Or.inr e3))
    | some r =>
      refine cm_some (s_succR h2 hp (by rw [rR]; exact e3) fun x X hx hxL hx2 => ?_)
      obtain ⟨c1, c2, ⟨a, c3, c4⟩, c5, -⟩ := h2.nd x hxL
      have hxp : x ≠ p := fun z => by
        rw [z, rR, e2] at hx2
        cases hx2
      -- the place of x
      obtain ⟨B2, hB⟩ : ∃ B2, B = x :: B2 := by
        obtain ⟨A1, B1, hL1⟩ := h2.ti.inf hp
        have e9 : sub p = so sub (hR G p 2) ++ p :: sub r := h.ti.rsub hp e3
        rw [e9, hx] at hL1
        have e8 : A ++ p :: B = (A1 ++ so sub (hR G p 2)) ++ p :: (x :: X ++ B1) := by
          rw [← hL, hL1]
          simp
        have := nd_mid A _ (by rw [← hL]; exact hnd) e8
        exact ⟨X ++ B1, this.2⟩
      refine ⟨x, rfl, hclt c1, hlet_i ⟨h2.nc hp, hlet_i ⟨hclt c1, hlet_i ⟨h2.nc hp, hlet_i ?_⟩⟩⟩⟩
      have r1 : hR (hsR G2 p 0 (hR G2 x 0)) x 1 = v x := by
        rw [hR_sR, if_neg (fun z => hxp z.1)]
        exact c5
      rw [r1, c3]
      have h3 := (h2.key hu hp c4).val hu hp (v x)
      have f3 : gFr (gOnly u) o G o (hsR (hsR G2 p 0 (some a)) p 1 (v x)) := (f2.sR (Or.inr (h.no hp))).sR (Or.inr (h.no hp))
      refine s_b57 h3 hu hxL (Or.inl ?_) fun G' sub' root' a1 a2 => ?_
      · rw [hR_sR, if_neg (fun z => hxp z.1), hR_sR, if_neg (fun z => hxp z.1)]
        exact hx2
      · have hL3 : L = (A ++ [p]) ++ x :: B2 := by rw [hL, hB]; simp
        have hr : rmv x L = (A ++ [p]) ++ B2 := by rw [hL3]; exact rmv_mid (by rw [← hL3]; exact hnd)
        have hlen2 : ((A ++ [p]) ++ B2).length = L.length - 1 := by rw [hL3]; simp
        rw [hr, ← hlen2] at a1
        refine hQ G' _ _ _ sub' root' a1 ?_ (f3.tr a2)
        rw [hL, hB] at hnd
        have hA : ∀ n, n ∈ A → n ≠ p := fun n hn z => (List.nodup_append.mp hnd).2.2 n hn p List.mem_cons_self z
        have hB2 : ∀ n, n ∈ B2 → n ≠ p := fun n hn z => (List.nodup_cons.mp (List.nodup_append.mp hnd).2.1).1 (by rw [← z]; exact List.mem_cons_of_mem _ hn)
        rw [hB, List.map_append, List.map_append, List.map_append, List.map_cons, List.map_cons, List.map_nil, fu_s, fu_s, List.append_assoc]
        have m1 : A.map (fun n => (fu k p (k x) n, fu v p (v x) n)) = A.map (fun n => (k n, v n)) := List.map_congr_left fun n hn => by rw [fu_n (hA n hn), fu_n (hA n hn)]
        have m2 : B2.map (fun n => (fu k p (k x) n, fu v p (v x) n)) = B2.map (fun n => (k n, v n)) := List.map_congr_left fun n hn => by rw [fu_n (hB2 n hn), fu_n (hB2 n hn)]
        rw [m1, m2]
        rfl
theorem s_tmremove {Q : hG → Option Nat → Prop} {a : Nat} {key : Wd} (h : pTM o G u t L.length L k v sub root) (hu : u ≠ (0, 0)) (hpw : L.Pairwise (kLt k)) (hk : pW o G a key) (hQ0 : (∀ n, n ∈ L → k n ≠ key) → Q G none)
    (hQ1 : ∀ A n B, L = A ++ n :: B → k n = key → ∀ G' L' k' v' sub' root', pTM o G' u t L'.length L' k' v' sub' root' → L'.map (fun n => (k' n, v' n)) = (A ++ B).map (fun n => (k n, v n)) → gFr (gOnly u) o G o G' → Q G' (v n)) : wJ1_remove Q t (some a) G := by
  unfold wJ1_remove
  refine ⟨hclt h.c, s_getEntry h hpw hk (fun n hn e => cm_some ⟨hclt (h.nc hn), hlet_i ⟨hclt h.c, ?_⟩⟩) (fun hn => cm_none (hQ0 hn))⟩
  obtain ⟨A, B, hL⟩ := List.append_of_mem hn
  rw [(h.nd n hn).2.2.2.1]
  exact s_deleteEntry h hu hL fun G' L' k' v' sub' root' a1 a2 a3 => hQ1 A n B hL e G' L' k' v' sub' root' a1 a2 a3
end PTM14
/-! maps as lists -/
abbrev En : Type := Wd × Option Nat
def eLt {α : Type} (a b : Wd × α) : Prop := wlt a.1 b.1 = true
def insA {α : Type} (key : Wd) (x : α) : List (Wd × α) → List (Wd × α)
  | [] => [(key, x)]
  | (y, d) :: t => if key = y then (key, x) :: t else if wlt key y then (key, x) :: (y, d) :: t else (y, d) :: insA key x t
def rmA {α : Type} (key : Wd) (E : List (Wd × α)) : List (Wd × α) := E.filter (fun e => e.1 != key)
theorem insA_new {α : Type} {key : Wd} {x : α} : ∀ {A B : List (Wd × α)}, (∀ e, e ∈ A → wlt e.1 key = true) → (∀ e, e ∈ B → wlt key e.1 = true) → insA key x (A ++ B) = A ++ (key, x) :: B
  | [], [], _, _ => rfl
  | [], (y, d) :: B, _, hB => by
    have h1 := hB _ List.mem_cons_self
    show (if key = y then _ else if wlt key y then _ else _) = _
    rw [if_neg (wlt_ne h1), if_pos h1]
    rfl
  | (y, d) :: A, B, hA, hB => by
    have h1 := hA _ List.mem_cons_self
    show (if key = y then _ else if wlt key y then _ else (y, d) :: insA key x (A ++ B)) = _
    rw [if_neg (wlt_ne h1).symm, if_neg (by rw [wlt_asy h1]; decide), insA_new (fun e he => hA e (List.mem_cons_of_mem _ he)) hB]
    rfl
theorem insA_old {α : Type} {key : Wd} {x d : α} : ∀ {A B : List (Wd × α)}, (∀ e, e ∈ A → wlt e.1 key = true) → insA key x (A ++ (key, d) :: B) = A ++ (key, x) :: B
  | [], B, _ => by
    show (if key = key then _ else _) = _
    rw [if_pos rfl]
    rfl
  | (y, d') :: A, B, hA => by
    have h1 := hA _ List.mem_cons_self
    show (if key = y then _ else if wlt key y then _ else (y, d') :: insA key x (A ++ (key, d) :: B)) = _
    rw [if_neg (wlt_ne h1).symm, if_neg (by rw [wlt_asy h1]; decide), insA_old (fun e he => hA e (List.mem_cons_of_mem _ he))]
    rfl
theorem rmA_mid {α : Type} {key : Wd} {d : α} {A B : List (Wd × α)} (h : (A ++ (key, d) :: B).Pairwise eLt) : rmA key (A ++ (key, d) :: B) = A ++ B := by
  obtain ⟨h1, h2, h3⟩ := List.pairwise_append.mp h
  have hA : ∀ e, e ∈ A → e.1 ≠ key := fun e he => wlt_ne (h3 e he _ List.mem_cons_self)
  have hB : ∀ e, e ∈ B → e.1 ≠ key := fun e he => (wlt_ne ((List.pairwise_cons.mp h2).1 e he)).symm
  unfold rmA
  rw [List.filter_append, List.filter_cons, List.filter_eq_self.mpr (fun e he => by simp [hA e he]), List.filter_eq_self.mpr (fun e he => by simp [hB e he])]
  simp
theorem rmA_none {α : Type} {key : Wd} {E : List (Wd × α)} (h : ∀ e, e ∈ E → e.1 ≠ key) : rmA key E = E := List.filter_eq_self.mpr (fun e he => by simp [h e he])
