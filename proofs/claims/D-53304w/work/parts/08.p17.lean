/-! ===== plain law 17: TreeMap.buildFromSorted (levels written by gen17.py) ===== -/
set_option maxRecDepth 100000
section JOIN
variable {lf1 rt1 pr1 lf2 rt2 pr2 lf' rt' pr' : Nat → Option Nat} {sub1 sub2 : Nat → List Nat} {N1 N2 : List Nat} {r1 r2 : Option Nat} {m : Nat}
theorem TI.nil {lf rt pr : Nat → Option Nat} {sub : Nat → List Nat} : TI lf rt pr sub [] none :=
  ⟨List.nodup_nil, rfl, by simp, by simp, by simp, by simp, by simp, by simp, by simp⟩
theorem TI.join (h1 : TI lf1 rt1 pr1 sub1 N1 r1) (h2 : TI lf2 rt2 pr2 sub2 N2 r2) (hm1 : m ∉ N1) (hm2 : m ∉ N2) (hd : ∀ x, x ∈ N1 → x ∉ N2) (em1 : lf' m = r1) (em2 : rt' m = r2) (em3 : pr' m = none)
    (a1 : ∀ b, b ∈ N1 → lf' b = lf1 b) (a2 : ∀ b, b ∈ N1 → rt' b = rt1 b) (a3 : ∀ b, b ∈ N1 → pr' b = if r1 = some b then some m else pr1 b)
    (b1 : ∀ b, b ∈ N2 → lf' b = lf2 b) (b2 : ∀ b, b ∈ N2 → rt' b = rt2 b) (b3 : ∀ b, b ∈ N2 → pr' b = if r2 = some b then some m else pr2 b) :
    ∃ sub', TI lf' rt' pr' sub' (N1 ++ m :: N2) (some m) := by
  obtain ⟨sub', hs⟩ : ∃ sub' : Nat → List Nat, sub' = fun n => if n = m then N1 ++ m :: N2 else if n ∈ N1 then sub1 n else sub2 n := ⟨_, rfl⟩
  have sm : sub' m = N1 ++ m :: N2 := by rw [hs]; simp
  have s1 : ∀ n, n ∈ N1 → sub' n = sub1 n := fun n hn => by
    have : n ≠ m := fun z => hm1 (by rw [← z]; exact hn)
    rw [hs]
    simp [this, hn]
  have s2 : ∀ n, n ∈ N2 → sub' n = sub2 n := fun n hn => by
    have c1 : n ≠ m := fun z => hm2 (by rw [← z]; exact hn)
    have c2 : n ∉ N1 := fun z => hd n z hn
    rw [hs]
    simp [c1, c2]
  have so1 : ∀ x : Option Nat, (∀ c, x = some c → c ∈ N1) → so sub' x = so sub1 x := fun x hx => so_congr fun c hc => s1 c (hx c hc)
  have so2 : ∀ x : Option Nat, (∀ c, x = some c → c ∈ N2) → so sub' x = so sub2 x := fun x hx => so_congr fun c hc => s2 c (hx c hc)
  have mem : ∀ n, n ∈ N1 ++ m :: N2 → n ∈ N1 ∨ n = m ∨ n ∈ N2 := fun n hn => by simpa using hn
  have i1 : ∀ n, n ∈ N1 → n ∈ N1 ++ m :: N2 := fun n hn => by simp [hn]
  have i2 : ∀ n, n ∈ N2 → n ∈ N1 ++ m :: N2 := fun n hn => by simp [hn]
  have im : m ∈ N1 ++ m :: N2 := by simp
  refine ⟨sub', ?_, ?_, fun r z => ?_, fun n hn => ?_, fun n hn => ?_, fun n c hn z => ?_, fun n c hn z => ?_, fun n p hn z => ?_, fun n hn z => ?_⟩
  · refine List.nodup_append.mpr ⟨h1.nd, List.nodup_cons.mpr ⟨hm2, h2.nd⟩, fun a ha b hb e => ?_⟩
    rcases List.mem_cons.mp hb with w | w
    · rw [e, w] at ha
      exact hm1 ha
    · rw [e] at ha
      exact hd b ha w
  · exact sm
  · cases z
    exact ⟨im, em3⟩
  · rcases mem n hn with w | w | w
    · rw [s1 n w, a1 n w, a2 n w, so1 _ (fun c e => (h1.lc w e).1), so1 _ (fun c e => (h1.rc w e).1)]
      exact h1.eq w
    · rw [w, sm, em1, em2, so1 _ (fun c e => (h1.rp e).1), so2 _ (fun c e => (h2.rp e).1), h1.ro, h2.ro]
    · rw [s2 n w, b1 n w, b2 n w, so2 _ (fun c e => (h2.lc w e).1), so2 _ (fun c e => (h2.rc w e).1)]
      exact h2.eq w
  · rcases mem n hn with w | w | w
    · obtain ⟨A, B, hL⟩ := h1.inf w
      exact ⟨A, B ++ m :: N2, by rw [s1 n w, ← List.append_assoc, ← hL]⟩
    · exact ⟨[], [], by rw [w, sm]; simp⟩
    · obtain ⟨A, B, hL⟩ := h2.inf w
      refine ⟨N1 ++ m :: A, B, ?_⟩
      rw [s2 n w]
      have : N1 ++ m :: N2 = N1 ++ m :: (A ++ sub2 n ++ B) := by rw [← hL]
      rw [this]
      simp
  · rcases mem n hn with w | w | w
    · rw [a1 n w] at z
      have g := h1.lc w z
      refine ⟨i1 c g.1, ?_⟩
      rw [a3 c g.1, if_neg (fun y => ?_)]
      · exact g.2
      · have := (h1.rp y).2
        rw [g.2] at this
        cases this
    · rw [w, em1] at z
      have g := h1.rp z
      exact ⟨i1 c g.1, by rw [a3 c g.1, if_pos z, w]⟩
    · rw [b1 n w] at z
      have g := h2.lc w z
      refine ⟨i2 c g.1, ?_⟩
      rw [b3 c g.1, if_neg (fun y => ?_)]
      · exact g.2
      · have := (h2.rp y).2
        rw [g.2] at this
        cases this
  · rcases mem n hn with w | w | w
    · rw [a2 n w] at z
      have g := h1.rc w z
      refine ⟨i1 c g.1, ?_⟩
      rw [a3 c g.1, if_neg (fun y => ?_)]
      · exact g.2
      · have := (h1.rp y).2
        rw [g.2] at this
        cases this
    · rw [w, em2] at z
      have g := h2.rp z
      exact ⟨i2 c g.1, by rw [b3 c g.1, if_pos z, w]⟩
    · rw [b2 n w] at z
      have g := h2.rc w z
      refine ⟨i2 c g.1, ?_⟩
      rw [b3 c g.1, if_neg (fun y => ?_)]
      · exact g.2
      · have := (h2.rp y).2
        rw [g.2] at this
        cases this
  · rcases mem n hn with w | w | w
    · rw [a3 n w] at z
      by_cases c : r1 = some n
      · rw [if_pos c] at z
        cases z
        exact ⟨im, Or.inl (em1.trans c)⟩
      · rw [if_neg c] at z
        have g := h1.pa w z
        exact ⟨i1 p g.1, by rw [a1 p g.1, a2 p g.1]; exact g.2⟩
    · rw [w, em3] at z
      cases z
    · rw [b3 n w] at z
      by_cases c : r2 = some n
      · rw [if_pos c] at z
        cases z
        exact ⟨im, Or.inr (em2.trans c)⟩
      · rw [if_neg c] at z
        have g := h2.pa w z
        exact ⟨i2 p g.1, by rw [b1 p g.1, b2 p g.1]; exact g.2⟩
  · rcases mem n hn with w | w | w
    · rw [a3 n w] at z
      by_cases c : r1 = some n
      · rw [if_pos c] at z
        cases z
      · rw [if_neg c] at z
        exact absurd (h1.pn w z) c
    · rw [w]
    · rw [b3 n w] at z
      by_cases c : r2 = some n
      · rw [if_pos c] at z
        cases z
      · rw [if_neg c] at z
        exact absurd (h2.pn w z) c
end JOIN
/-- a tree without its map -/
def pTr (o : gO) (G : hG) (u : Nat × Nat) (N : List Nat) (k : Nat → Wd) (v : Nat → Option Nat) (sub : Nat → List Nat) (root : Option Nat) : Prop := pND o G u N k v ∧ TI (fl G 2) (fl G 3) (fl G 4) sub N root
theorem pTr.fr {M : Nat × Nat → Prop} {o o' : gO} {G G' : hG} {u : Nat × Nat} {N : List Nat} {k : Nat → Wd} {v : Nat → Option Nat} {sub : Nat → List Nat} {root : Option Nat} (h : pTr o G u N k v sub root) (hf : gFr M o G o' G') (hu : ¬ M u) (h0 : ¬ M (0, 0)) : pTr o' G' u N k v sub root := by
  have sn : ∀ n, n ∈ N → hSm G G' n := fun n e => hf.S (h.1 n e).1 (h.1 n e).2.1 hu
  exact ⟨h.1.fr hf hu h0, h.2.congr (fun n e => congrFun (sn n e).2.2.2 2) (fun n e => congrFun (sn n e).2.2.2 3) (fun n e => congrFun (sn n e).2.2.2 4)⟩
section BLD
variable {o o' : gO} {G G' : hG} {u us w : Nat × Nat} {t ts it : Nat} {E E1 E2 : List En}
/-- what is asked of the iterator's kind and of the value put in -/
def bKd (ci : Nat) (dv : Option Nat) (Ea : List En) : Prop := (ci = 13 ∧ dv = none) ∨ (ci = 11 ∧ ∃ P, dv = some P ∧ ∀ e, e ∈ Ea → e.2 = some P)
theorem bKd.sub {ci : Nat} {dv : Option Nat} {Ea Eb : List En} (h : bKd ci dv Ea) (hs : ∀ e, e ∈ Eb → e ∈ Ea) : bKd ci dv Eb := by
  rcases h with h | ⟨h1, P, h2, h3⟩
  · exact Or.inl h
  · exact Or.inr ⟨h1, P, h2, fun e he => h3 e (hs e he)⟩
theorem s_mid {lo n : Nat} (h1 : 1 ≤ n) (h2 : lo + n ≤ 1000) : (((nI lo + nI (lo + n - 1))).toUInt32 >>> (((1 : Int32)).toUInt32 &&& Int32.toUInt32 31)).toInt32 = nI (lo + (n - 1) / 2) := by
  rw [nI_add, pk_ushrN (k := 1) (by omega) _ (by decide)]
  congr 1
  omega
/-- the whole at a level's end -/
theorem s_bEnd {GL GD : hG} {oL oD : gO} {N1 N2 : List Nat} {k1 k2 : Nat → Wd} {v1 v2 : Nat → Option Nat} {sub1 sub2 : Nat → List Nat} {r1 r2 : Option Nat} {m a : Nat} {e : En}
    (h1 : pTr oL GL u N1 k1 v1 sub1 r1) (h2 : pTr oD GD u N2 k2 v2 sub2 r2)
    (hm1 : m ∉ N1) (hm2 : m ∉ N2) (hd : ∀ x, x ∈ N1 → x ∉ N2) (oD' : oD = o')
    (mc : hC G' m = some (10, true)) (mo : o' m = u) (mk : hR G' m 0 = some a) (mw : pW o' G' a e.1) (mv : hR G' m 1 = e.2) (m5 : hI G' m 5 = 0 ∨ hI G' m 5 = 1) (m2 : hR G' m 2 = r1) (m3 : hR G' m 3 = r2) (m4 : hR G' m 4 = none)
    (c1 : ∀ b, b ∈ N1 → hC G' b = some (10, true) ∧ o' b = u ∧ hI G' b = hI GL b) (g1 : ∀ b j, b ∈ N1 → hR G' b j = if r1 = some b ∧ j = 4 then some m else hR GL b j)
    (c2 : ∀ b, b ∈ N2 → hC G' b = some (10, true) ∧ o' b = u ∧ hI G' b = hI GD b) (g2 : ∀ b j, b ∈ N2 → hR G' b j = if r2 = some b ∧ j = 4 then some m else hR GD b j)
    (w1 : ∀ x l, pW oL GL x l → pW o' G' x l) (w2 : ∀ x l, pW oD GD x l → pW o' G' x l) :
    ∃ kk vv sub', pTr o' G' u (N1 ++ m :: N2) kk vv sub' (some m) ∧ (N1 ++ m :: N2).map (fun n => (kk n, vv n)) = N1.map (fun n => (k1 n, v1 n)) ++ e :: N2.map (fun n => (k2 n, v2 n)) := by
  have ti := TI.join (lf' := fl G' 2) (rt' := fl G' 3) (pr' := fl G' 4) h1.2 h2.2 hm1 hm2 hd m2 m3 m4 (fun b hb => (g1 b 2 hb).trans (if_neg (fun z => by have := z.2; omega))) (fun b hb => (g1 b 3 hb).trans (if_neg (fun z => by have := z.2; omega))) (fun b hb => by
      show hR G' b 4 = _
      rw [g1 b 4 hb]
      by_cases c : r1 = some b
      · rw [if_pos ⟨c, rfl⟩, if_pos c]
      · rw [if_neg (fun z => c z.1), if_neg c]) (fun b hb => (g2 b 2 hb).trans (if_neg (fun z => by have := z.2; omega))) (fun b hb => (g2 b 3 hb).trans (if_neg (fun z => by have := z.2; omega))) (fun b hb => by
      show hR G' b 4 = _
      rw [g2 b 4 hb]
      by_cases c : r2 = some b
      · rw [if_pos ⟨c, rfl⟩, if_pos c]
      · rw [if_neg (fun z => c z.1), if_neg c])
  obtain ⟨sub', ti⟩ := ti
  obtain ⟨kk, hkk⟩ : ∃ kk : Nat → Wd, kk = fun n => if n = m then e.1 else if n ∈ N1 then k1 n else k2 n := ⟨_, rfl⟩
  obtain ⟨vv, hvv⟩ : ∃ vv : Nat → Option Nat, vv = fun n => if n = m then e.2 else if n ∈ N1 then v1 n else v2 n := ⟨_, rfl⟩
  have km : kk m = e.1 := by rw [hkk]; simp
  have vm : vv m = e.2 := by rw [hvv]; simp
  have ka : ∀ n, n ∈ N1 → kk n = k1 n ∧ vv n = v1 n := fun n hn => by
    have : n ≠ m := fun z => hm1 (by rw [← z]; exact hn)
    rw [hkk, hvv]
    simp [this, hn]
  have kb : ∀ n, n ∈ N2 → kk n = k2 n ∧ vv n = v2 n := fun n hn => by
    have c1 : n ≠ m := fun z => hm2 (by rw [← z]; exact hn)
    have c2 : n ∉ N1 := fun z => hd n z hn
    rw [hkk, hvv]
    simp [c1, c2]
  refine ⟨kk, vv, sub', ⟨fun n hn => ?_, ti⟩, ?_⟩
  · have hn' : n ∈ N1 ∨ n = m ∨ n ∈ N2 := by simpa using hn
    rcases hn' with z | z | z
    · obtain ⟨x1, x2, ⟨b, x3, x4⟩, x5, x6⟩ := h1.1 n z
      obtain ⟨y1, y2, y3⟩ := c1 n z
      rw [(ka n z).1, (ka n z).2, y3]
      exact ⟨y1, y2, ⟨b, (g1 n 0 z).trans ((if_neg (fun z => by have := z.2; omega)).trans x3), w1 _ _ x4⟩, (g1 n 1 z).trans ((if_neg (fun z => by have := z.2; omega)).trans x5), x6⟩
    · rw [z, km, vm]
      exact ⟨mc, mo, ⟨a, mk, mw⟩, mv, m5⟩
    · obtain ⟨x1, x2, ⟨b, x3, x4⟩, x5, x6⟩ := h2.1 n z
      obtain ⟨y1, y2, y3⟩ := c2 n z
      rw [(kb n z).1, (kb n z).2, y3]
      exact ⟨y1, y2, ⟨b, (g2 n 0 z).trans ((if_neg (fun z => by have := z.2; omega)).trans x3), w2 _ _ x4⟩, (g2 n 1 z).trans ((if_neg (fun z => by have := z.2; omega)).trans x5), x6⟩
  · rw [List.map_append, List.map_cons, km, vm]
    congr 1
    · exact List.map_congr_left fun n hn => by rw [(ka n hn).1, (ka n hn).2]
    · congr 1
      exact List.map_congr_left fun n hn => by rw [(kb n hn).1, (kb n hn).2]
end BLD
