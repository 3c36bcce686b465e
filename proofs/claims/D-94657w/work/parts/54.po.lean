/-! pure land: T4 T5 T6 T7 (see wip/D-94657w/pl) -/
/-- the same for yes and no -/
def Rb (M : mS) (d : Int32) (B : Nat) (s : Sc9) (r : pR9 Co9) (go : Option (Int32 × mS)) : Prop := match r with
  | .inl e => ∃ v q d', q ≤ B ∧ (v = 0 ∨ v = 1) ∧ go = some (v, m3 M (nI q) (nI e) d')
  | .inr x => go = some (b2 (x.1 s), m3 M (nI x.2) (-1) d)
section ZT5
variable {M : mS} {T : Nat → Nat} {n p B : Nat} {e d x : Int32} {s : Sc9}
theorem b2_01 (b : Bool) : b2 b = 0 ∨ b2 b = 1 := by
  cases b
  · exact Or.inl rfl
  · exact Or.inr rfl
theorem kk1 : ¬ ((1 : Int32) = 0) := by decide
theorem kk0 : ¬ ¬ ((0 : Int32) = 0) := fun q => q rfl
theorem zbo_ok {β : Type} {v : Int32} {K : Option β} (h : v = 0 ∨ v = 1) : zbo v K = K := if_pos h
theorem b2_eq {v : Int32} (h : v = 0 ∨ v = 1) : b2 (decide (v = 1)) = v := by rcases h with rfl | rfl <;> rfl
theorem g_164 (h : yTM M T n) (hB : n ≤ B) (hs : ySM M s) {f : Sc9 → Int32} {v2 : Int32} (hp : p < n) : ∀ q0, (v2 = 1 → q0 = fun g => fun s => decide (f s < (g : Sc9 → Int32) s)) → (v2 = 0 → q0 = fun g => fun s => decide ((g : Sc9 → Int32) s < f s)) → (v2 = 0 ∨ v2 = 1) →
    Rb M d B s (match pSum T (p + 1) with
    | .inl e => .inl e
    | .inr (g, r) => .inr (q0 g, r)) (g_X6_plain_164 (f s) v2 (m3 M (nI p) (-1) d)) := by
  intro q0 h1 h0 hv
  unfold g_X6_plain_164
  rw [zl_at, m3_9, m3_s9, nI_1]
  have hg := g_sum (d := d) h hB hs (show p + 1 ≤ n by omega)
  generalize pSum T (p + 1) = r at hg
  match r, hg with
  | .inl e, hg =>
    obtain ⟨v, q, d', hqB, hg⟩ := hg
    rw [hg, zb2_at]
    show ∃ v q d', q ≤ B ∧ (v = 0 ∨ v = 1) ∧ _ = some (v, m3 M (nI q) (nI e) d')
    by_cases z : v2 = 0
    · rw [if_pos z]
      by_cases y : f s ≤ v
      · rw [if_pos y]; exact ⟨0, q, d', hqB, Or.inl rfl, rfl⟩
      · rw [if_neg y]; exact ⟨1, q, d', hqB, Or.inr rfl, rfl⟩
    · rw [if_neg z]
      by_cases y : v ≤ f s
      · rw [if_pos y]; exact ⟨0, q, d', hqB, Or.inl rfl, rfl⟩
      · rw [if_neg y]; exact ⟨1, q, d', hqB, Or.inr rfl, rfl⟩
  | .inr (g, q), hg =>
    have hg' : g_X6_sum (m3 M (nI (p + 1)) (-1) d) = some (g s, m3 M (nI q) (-1) d) := hg
    rw [hg', zb2_at]
    show _ = some (b2 (q0 g s), m3 M (nI q) (-1) d)
    rcases hv with z | z
    · rw [if_pos z, h0 z]
      by_cases y : f s ≤ g s
      · rw [if_pos y]
        have : decide (g s < f s) = false := decide_eq_false (Int32.not_lt.mpr y)
        show _ = some (b2 (decide (g s < f s)), _)
        rw [this]; rfl
      · rw [if_neg y]
        have : decide (g s < f s) = true := decide_eq_true (Int32.not_le.mp y)
        show _ = some (b2 (decide (g s < f s)), _)
        rw [this]; rfl
    · rw [if_neg (by rw [z]; decide), h1 z]
      by_cases y : g s ≤ f s
      · rw [if_pos y]
        have : decide (f s < g s) = false := decide_eq_false (Int32.not_lt.mpr y)
        show _ = some (b2 (decide (f s < g s)), _)
        rw [this]; rfl
      · rw [if_neg y]
        have : decide (f s < g s) = true := decide_eq_true (Int32.not_le.mp y)
        show _ = some (b2 (decide (f s < g s)), _)
        rw [this]; rfl
theorem g_plain (h : yTM M T n) (hB : n ≤ B) (hs : ySM M s) (hp : p ≤ n) : Rb M d B s (pPlain T p) (g_X6_plain (m3 M (nI p) (-1) d)) := by
  have hn := h.1.1
  obtain ⟨a1, a2, a3, a4⟩ := sk_spec h.1 hp
  have ss := sk_sk h.1 hp
  have hs' := hs
  obtain ⟨s0, s5, s6, -, q5, q6⟩ := hs
  have T13 : ∀ (c : Int32) q, (if ¬ (m3 M q (-1) d).1 13 = c then some ((0 : Int32), m3 M q (-1) d) else some (1, m3 M q (-1) d)) = some (b2 (decide (s 0 = c)), m3 M q (-1) d) := by
    intro c q
    show (if ¬ M.1 13 = c then some ((0 : Int32), m3 M q (-1) d) else some (1, m3 M q (-1) d)) = _
    rw [s0]
    by_cases z : s 0 = c
    · rw [if_neg (fun y => y z), decide_eq_true z]; rfl
    · rw [if_pos z, decide_eq_false z]; rfl
  unfold g_X6_plain pPlain
  by_cases w1 : ywk 1 T (sk T p) = true
  · rw [if_pos w1, g_has1 h (by omega) hp w1, zb2_at, if_neg (by decide)]
    exact T13 0 _
  · rw [if_neg w1, g_has0 h (by omega) hp w1, zb2_at, if_pos rfl]
    by_cases w2 : ywk 2 T (sk T p) = true
    · rw [if_pos w2, g_has1 h (by omega) a2 (by rw [ss]; exact w2), zb2_at, if_neg (by decide), ss]
      exact T13 1 _
    · rw [if_neg w2, g_has0 h (by omega) a2 (by rw [ss]; exact w2), zb2_at, if_pos rfl, ss]
      by_cases w3 : ywk 3 T (sk T p) = true
      · rw [if_pos w3, g_has1 h (by omega) a2 (by rw [ss]; exact w3), zb2_at, if_neg (by decide), ss]
        exact T13 2 _
      · rw [if_neg w3, g_has0 h (by omega) a2 (by rw [ss]; exact w3), zb2_at, if_pos rfl, ss]
        by_cases w4 : ywk 4 T (sk T p) = true
        · rw [if_pos w4, g_has1 h (by omega) a2 (by rw [ss]; exact w4), zb2_at, if_neg (by decide), ss]
          exact T13 3 _
        · rw [if_neg w4, g_has0 h (by omega) a2 (by rw [ss]; exact w4), zb2_at, if_pos rfl, ss]
          by_cases w5 : ywk 17 T (sk T p) = true
          · rw [if_pos w5, g_has1 h (by omega) a2 (by rw [ss]; exact w5), zb2_at, if_neg (by decide), ss]
            show zbo (M.1 14) (some (M.1 14, _)) = some (b2 (decide (s 5 = 1)), _)
            rw [s5, zbo_ok q5, b2_eq q5]
          · rw [if_neg w5, g_has0 h (by omega) a2 (by rw [ss]; exact w5), zb2_at, if_pos rfl, ss]
            by_cases w6 : ywk 18 T (sk T p) = true
            · rw [if_pos w6, g_has1 h (by omega) a2 (by rw [ss]; exact w6), zb2_at, if_neg (by decide), ss]
              show zbo (M.1 15) (some (M.1 15, _)) = some (b2 (decide (s 6 = 1)), _)
              rw [s6, zbo_ok q6, b2_eq q6]
            · rw [if_neg w6, g_has0 h (by omega) a2 (by rw [ss]; exact w6), zb2_at, if_pos rfl, ss]
              have hg := g_sum (d := d) h hB hs' a2
              have hb := pSum_b h.1 a2
              -- behind a sum no blank is left
              have hsk : ∀ f q, pSum T (sk T p) = .inr (f, q) → sk T q = q := by
                intro f q e
                unfold pSum at e
                have hL : ∀ k f p f' q, p ≤ n → pSumL T k f p = .inr (f', q) → sk T q = q := by
                  intro k
                  induction k with
                  | zero =>
                    intro f p f' q hp e
                    cases e
                    exact sk_sk h.1 hp
                  | succ k ih =>
                    intro f p f' q hp e
                    unfold pSumL at e
                    by_cases z : T (sk T p) = 43
                    · rw [if_pos z] at e
                      have hb2 := pPart_b h.1 (show sk T p + 1 ≤ n from Tx_in h.1 (by omega) z)
                      generalize pPart T (sk T p + 1) = r at e hb2
                      match r, e, hb2 with
                      | .inl _, e, _ => cases e
                      | .inr (g, q1), e, hb2 => exact ih _ _ _ _ hb2.2 e
                    · rw [if_neg z] at e
                      cases e
                      exact sk_sk h.1 hp
                have hb2 := pPart_b h.1 a2
                generalize pPart T (sk T p) = r at e hb2
                match r, e, hb2 with
                | .inl _, e, _ => cases e
                | .inr (g, q1), e, hb2 => exact hL _ _ _ _ _ hb2.2 e
              generalize pSum T (sk T p) = r at hg hb hsk
              match r, hg, hb, hsk with
              | .inl e, hg, hb, _ =>
                obtain ⟨v, q, d', hqB, hg⟩ := hg
                have hen : e ≤ n := hb
                rw [hg, zb2_at, m3_10, if_neg (nI_ne1 (by omega))]
                exact ⟨0, q, _, hqB, Or.inl rfl, rfl⟩
              | .inr (f, q), hg, hb, hsk =>
                have hg' : g_X6_sum (m3 M (nI (sk T p)) (-1) d) = some (f s, m3 M (nI q) (-1) d) := hg
                have hqn : q ≤ n := hb.2
                have hq := hsk f q rfl
                rw [hg', zb2_at, m3_10, if_pos rfl, show (60 : Int32) = nI 60 from rfl, g_sign h (by omega) hqn, zb2_at, hq]
                show Rb M d B s (pCmp T f q) _
                unfold pCmp
                by_cases z : T q = 60
                · rw [if_pos z, if_pos z, if_pos kk1]
                  exact g_164 h hB hs' (Tx_in h.1 (by omega) z) (fun g => fun s => decide (f s < g s)) (fun _ => rfl) (fun y => absurd y (by decide)) (Or.inr rfl)
                · rw [if_neg z, if_neg z, if_neg kk0, show (62 : Int32) = nI 62 from rfl, g_sign h (by omega) hqn, zb2_at, hq]
                  by_cases y : T q = 62
                  · rw [if_pos y, if_pos y, if_pos kk1]
                    exact g_164 h hB hs' (Tx_in h.1 (by omega) y) (fun g => fun s => decide (g s < f s)) (fun y => absurd y (by decide)) (fun _ => rfl) (Or.inl rfl)
                  · rw [if_neg y, if_neg y, if_neg kk0, m3_9, g_wrong, zb2_at]
                    exact ⟨0, q, _, by omega, Or.inl rfl, rfl⟩
theorem g_evL (h : yTM M T n) (hB : n ≤ B) {ra : mS → Option (Int32 × mS)} {ra' : Nat → pR9 Co9} (hb : ∀ q, q ≤ n → qB n q (ra' q)) (hr : ∀ q, q ≤ n → Rb M d B s (ra' q) (ra (m3 M (nI q) (-1) d))) : ∀ k p f fu, p ≤ n → n ≤ p + k → k < fu → Rb M d B s (pEvL T ra' k f p) (zlp1 (g_X6_every_5_b ra) fu (b2 (f s)) (m3 M (nI p) (-1) d)) := by
  have hn := h.1.1
  intro k
  induction k with
  | zero =>
    intro p f fu h1 h2 h3
    obtain ⟨fu, rfl⟩ : ∃ f', fu = f' + 1 := ⟨fu - 1, by omega⟩
    obtain ⟨a1, a2, a3, a4⟩ := sk_spec h.1 h1
    show Rb M d B s (.inr (f, sk T p)) (g_X6_every_5_b ra _ _ _)
    have hw : ¬ ywk 15 T (sk T p) = true := fun q => by have := wk_b h.1 (by omega) a2 q; omega
    unfold g_X6_every_5_b
    rw [m3_10, if_neg nn1, g_has0 h (by omega) h1 hw, zb2_at, if_pos rfl, zbo_ok (b2_01 _)]
    exact rfl
  | succ k ih =>
    intro p f fu h1 h2 h3
    obtain ⟨fu, rfl⟩ : ∃ f', fu = f' + 1 := ⟨fu - 1, by omega⟩
    obtain ⟨a1, a2, a3, a4⟩ := sk_spec h.1 h1
    show Rb M d B s _ (g_X6_every_5_b ra (zlp1 (g_X6_every_5_b ra) fu) _ _)
    have er : ∀ v q e d', (v = 0 ∨ v = 1) → ¬ e = -1 → 0 < fu → zlp1 (g_X6_every_5_b ra) fu v (m3 M q e d') = some (v, m3 M q e d') := by
      intro v q e d' hv he hfu
      obtain ⟨fu, rfl⟩ : ∃ f', fu = f' + 1 := ⟨fu - 1, by omega⟩
      show g_X6_every_5_b ra _ _ _ = _
      unfold g_X6_every_5_b
      rw [m3_10, if_pos he, zbo_ok hv]
    have ih' := fun q g (hq : p < q) (hqn : q ≤ n) => ih q g fu hqn (by omega) (by omega)
    generalize zlp1 (g_X6_every_5_b ra) fu = rf at ih' er
    unfold g_X6_every_5_b pEvL
    rw [m3_10, if_neg nn1]
    by_cases z : ywk 15 T (sk T p) = true
    · have hw := wk_b h.1 (by omega) a2 z
      rw [if_pos z, g_has1 h (by omega) h1 z, zb2_at, if_neg (by decide)]
      have hg := hr _ hw.2
      have hbb := hb _ hw.2
      generalize ra' (we T (sk T p)) = r at hg hbb
      unfold g_X6_every_39 g_X6_every_40
      match r, hg, hbb with
      | .inl e, hg, hbb =>
        obtain ⟨v, q, d', hqB, hv, hg⟩ := hg
        have hen : e ≤ n := hbb
        rw [hg, zb2_at]
        show ∃ v q d', q ≤ B ∧ (v = 0 ∨ v = 1) ∧ _ = some (v, m3 M (nI q) (nI e) d')
        by_cases y : b2 (f s) = 0
        · rw [if_pos y, er _ _ _ _ (Or.inl rfl) (nI_ne1 (by omega)) (by omega)]
          exact ⟨0, q, _, hqB, Or.inl rfl, rfl⟩
        · rw [if_neg y]
          by_cases x : v = 0
          · rw [if_pos x, er _ _ _ _ (Or.inl rfl) (nI_ne1 (by omega)) (by omega)]
            exact ⟨0, q, _, hqB, Or.inl rfl, rfl⟩
          · rw [if_neg x, er _ _ _ _ (Or.inr rfl) (nI_ne1 (by omega)) (by omega)]
            exact ⟨1, q, _, hqB, Or.inr rfl, rfl⟩
      | .inr (g, q), hg, hbb =>
        have hg' : ra (m3 M (nI (we T (sk T p))) (-1) d) = some (b2 (g s), m3 M (nI q) (-1) d) := hg
        have hb1 : we T (sk T p) < q := hbb.1
        rw [hg', zb2_at]
        have key := ih' q (fun s => f s && g s) (by omega) hbb.2
        have e : (if b2 (f s) = 0 then rf 0 (m3 M (nI q) (-1) d) else if b2 (g s) = 0 then rf 0 (m3 M (nI q) (-1) d) else rf 1 (m3 M (nI q) (-1) d)) = rf (b2 (f s && g s)) (m3 M (nI q) (-1) d) := by
          cases f s <;> cases g s <;> rfl
        rw [e]
        exact key
    · rw [if_neg z, g_has0 h (by omega) h1 z, zb2_at, if_pos rfl, zbo_ok (b2_01 _)]
      exact rfl
theorem g_ev (h : yTM M T n) (hB : n ≤ B) {ra : mS → Option (Int32 × mS)} {ra' : Nat → pR9 Co9} (hb : ∀ q, q ≤ n → qB n q (ra' q)) (hr : ∀ q, q ≤ n → Rb M d B s (ra' q) (ra (m3 M (nI q) (-1) d))) (hp : p ≤ n) : Rb M d B s (pEv T ra' p) (g_X6_every ra (m3 M (nI p) (-1) d)) := by
  have hn := h.1.1
  unfold g_X6_every pEv
  have hg := hr p hp
  have hbb := hb p hp
  generalize ra' p = r at hg hbb
  match r, hg, hbb with
  | .inl e, hg, hbb =>
    obtain ⟨v, q, d', hqB, hv, hg⟩ := hg
    have hen : e ≤ n := hbb
    rw [hg, zb2_at]
    unfold g_X6_every_5
    show Rb M d B s _ (g_X6_every_5_b ra _ _ _)
    unfold g_X6_every_5_b
    rw [m3_10, if_pos (nI_ne1 (by omega)), zbo_ok hv]
    exact ⟨v, q, _, hqB, hv, rfl⟩
  | .inr (g, q), hg, hbb =>
    have hg' : ra (m3 M (nI p) (-1) d) = some (b2 (g s), m3 M (nI q) (-1) d) := hg
    rw [hg', zb2_at]
    exact g_evL h hB hb hr 400 q g NN hbb.2 (by have : p < q := hbb.1; omega) (NN_lt (by omega))
theorem g_soL (h : yTM M T n) (hB : n ≤ B) {ra : mS → Option (Int32 × mS)} {ra' : Nat → pR9 Co9} (hb : ∀ q, q ≤ n → qB n q (ra' q)) (hr : ∀ q, q ≤ n → Rb M d B s (ra' q) (ra (m3 M (nI q) (-1) d))) : ∀ k p f fu, p ≤ n → n ≤ p + k → k < fu → Rb M d B s (pSoL T ra' k f p) (zlp1 (g_X6_some_5_b ra) fu (b2 (f s)) (m3 M (nI p) (-1) d)) := by
  have hn := h.1.1
  intro k
  induction k with
  | zero =>
    intro p f fu h1 h2 h3
    obtain ⟨fu, rfl⟩ : ∃ f', fu = f' + 1 := ⟨fu - 1, by omega⟩
    obtain ⟨a1, a2, a3, a4⟩ := sk_spec h.1 h1
    show Rb M d B s (.inr (f, sk T p)) (g_X6_some_5_b ra _ _ _)
    have hw : ¬ ywk 16 T (sk T p) = true := fun q => by have := wk_b h.1 (by omega) a2 q; omega
    unfold g_X6_some_5_b
    rw [m3_10, if_neg nn1, g_has0 h (by omega) h1 hw, zb2_at, if_pos rfl, zbo_ok (b2_01 _)]
    exact rfl
  | succ k ih =>
    intro p f fu h1 h2 h3
    obtain ⟨fu, rfl⟩ : ∃ f', fu = f' + 1 := ⟨fu - 1, by omega⟩
    obtain ⟨a1, a2, a3, a4⟩ := sk_spec h.1 h1
    show Rb M d B s _ (g_X6_some_5_b ra (zlp1 (g_X6_some_5_b ra) fu) _ _)
    have er : ∀ v q e d', (v = 0 ∨ v = 1) → ¬ e = -1 → 0 < fu → zlp1 (g_X6_some_5_b ra) fu v (m3 M q e d') = some (v, m3 M q e d') := by
      intro v q e d' hv he hfu
      obtain ⟨fu, rfl⟩ : ∃ f', fu = f' + 1 := ⟨fu - 1, by omega⟩
      show g_X6_some_5_b ra _ _ _ = _
      unfold g_X6_some_5_b
      rw [m3_10, if_pos he, zbo_ok hv]
    have ih' := fun q g (hq : p < q) (hqn : q ≤ n) => ih q g fu hqn (by omega) (by omega)
    generalize zlp1 (g_X6_some_5_b ra) fu = rf at ih' er
    unfold g_X6_some_5_b pSoL
    rw [m3_10, if_neg nn1]
    by_cases z : ywk 16 T (sk T p) = true
    · have hw := wk_b h.1 (by omega) a2 z
      rw [if_pos z, g_has1 h (by omega) h1 z, zb2_at, if_neg (by decide)]
      have hg := g_ev h hB hb hr hw.2
      have hbb := pEv_b h.1 hb hw.2
      generalize pEv T ra' (we T (sk T p)) = r at hg hbb
      unfold g_X6_some_35 g_X6_some_40
      match r, hg, hbb with
      | .inl e, hg, hbb =>
        obtain ⟨v, q, d', hqB, hv, hg⟩ := hg
        have hen : e ≤ n := hbb
        rw [hg, zb2_at]
        show ∃ v q d', q ≤ B ∧ (v = 0 ∨ v = 1) ∧ _ = some (v, m3 M (nI q) (nI e) d')
        by_cases y : ¬ b2 (f s) = 0
        · rw [if_pos y, er _ _ _ _ (Or.inr rfl) (nI_ne1 (by omega)) (by omega)]
          exact ⟨1, q, _, hqB, Or.inr rfl, rfl⟩
        · rw [if_neg y]
          by_cases x : v = 0
          · rw [if_pos x, er _ _ _ _ (Or.inl rfl) (nI_ne1 (by omega)) (by omega)]
            exact ⟨0, q, _, hqB, Or.inl rfl, rfl⟩
          · rw [if_neg x, er _ _ _ _ (Or.inr rfl) (nI_ne1 (by omega)) (by omega)]
            exact ⟨1, q, _, hqB, Or.inr rfl, rfl⟩
      | .inr (g, q), hg, hbb =>
        have hg' : g_X6_every ra (m3 M (nI (we T (sk T p))) (-1) d) = some (b2 (g s), m3 M (nI q) (-1) d) := hg
        have hb1 : we T (sk T p) < q := hbb.1
        rw [hg', zb2_at]
        have key := ih' q (fun s => f s || g s) (by omega) hbb.2
        have e : (if ¬ b2 (f s) = 0 then rf 1 (m3 M (nI q) (-1) d) else if b2 (g s) = 0 then rf 0 (m3 M (nI q) (-1) d) else rf 1 (m3 M (nI q) (-1) d)) = rf (b2 (f s || g s)) (m3 M (nI q) (-1) d) := by
          cases f s <;> cases g s <;> rfl
        rw [e]
        exact key
    · rw [if_neg z, g_has0 h (by omega) h1 z, zb2_at, if_pos rfl, zbo_ok (b2_01 _)]
      exact rfl
theorem g_so (h : yTM M T n) (hB : n ≤ B) {ra : mS → Option (Int32 × mS)} {ra' : Nat → pR9 Co9} (hb : ∀ q, q ≤ n → qB n q (ra' q)) (hr : ∀ q, q ≤ n → Rb M d B s (ra' q) (ra (m3 M (nI q) (-1) d))) (hp : p ≤ n) : Rb M d B s (pSo T ra' p) (g_X6_some ra (m3 M (nI p) (-1) d)) := by
  have hn := h.1.1
  unfold g_X6_some pSo
  have hg := g_ev h hB hb hr hp
  have hbb := pEv_b h.1 hb hp
  generalize pEv T ra' p = r at hg hbb
  match r, hg, hbb with
  | .inl e, hg, hbb =>
    obtain ⟨v, q, d', hqB, hv, hg⟩ := hg
    have hen : e ≤ n := hbb
    rw [hg, zb2_at]
    unfold g_X6_some_5
    show Rb M d B s _ (g_X6_some_5_b ra _ _ _)
    unfold g_X6_some_5_b
    rw [m3_10, if_pos (nI_ne1 (by omega)), zbo_ok hv]
    exact ⟨v, q, _, hqB, hv, rfl⟩
  | .inr (g, q), hg, hbb =>
    have hg' : g_X6_every ra (m3 M (nI p) (-1) d) = some (b2 (g s), m3 M (nI q) (-1) d) := hg
    rw [hg', zb2_at]
    exact g_soL h hB hb hr 400 q g NN hbb.2 (by have : p < q := hbb.1; omega) (NN_lt (by omega))
end ZT5
section ZT6
variable {M : mS} {T : Nat → Nat} {n p B : Nat} {e x : Int32} {s : Sc9}
theorem wk_let (h : Tx T n) {i q : Nat} (hi : i < 23) (hw : ywk i T q = true) : 97 ≤ T q := by
  obtain ⟨a, b⟩ := of_decide_eq_true hw
  obtain ⟨c1, c2, c3⟩ := zTb_ne i hi
  have h1 := b 0 c1
  obtain ⟨h2, -⟩ := c3 0 c1
  rw [← h1, show (97 : Int32) = nI 97 from rfl] at h2
  have h3 : T (q + 0) = T q := rfl
  rw [h3] at h2
  have := Tx_256 h q
  exact (nI_leI (by omega) (by omega)).mp h2
theorem g_atom (h : yTM M T n) (hB : n ≤ B) (hs : ySM M s) {ra : mS → Option (Int32 × mS)} {ra' : Nat → Nat → pR9 Co9} {d : Nat} (hd : d ≤ 6) (hb : ∀ d q, q ≤ n → qB n q (ra' d q)) (hr : ∀ q, q ≤ n → d < 6 → Rb M (nI (d + 1)) B s (ra' (d + 1) q) (ra (m3 M (nI q) (-1) (nI (d + 1))))) (hp : p ≤ n) : Rb M (nI d) (B + 1) s (pAtom T ra' d p) (g_X6_atom ra (m3 M (nI p) (-1) (nI d))) := by
  have hn := h.1.1
  obtain ⟨a1, a2, a3, a4⟩ := sk_spec h.1 hp
  have ss := sk_sk h.1 hp
  have dn : nI (d + 1) - 1 = nI d := by rw [show (1 : Int32) = nI 1 from rfl, pk_sub (by omega)]; rfl
  have d6 : (nI d = 6) = (d = 6) := by rw [show (6 : Int32) = nI 6 from rfl]; exact nI_inj (by omega) (by omega)
  have y6 : d = 6 → ¬ ¬ (nI d = 6) := fun y q => q (d6.mpr y)
  have x6 : ¬ d = 6 → ¬ (nI d = 6) := fun y q => y (d6.mp q)
  unfold g_X6_atom pAtom
  rw [m3_10, if_pos rfl, g_skip h hp, zb2_at, zl_at, m3_9]
  by_cases z : T (sk T p) = 40
  · have nw : ¬ ywk 14 T (sk T p) = true := fun q => by have := wk_let h.1 (by omega) q; omega
    have hlt := Tx_in h.1 (by omega) z
    rw [if_pos z, g_has0 h (by omega) a2 (by rw [ss]; exact nw), zb2_at, if_neg kk0, show (40 : Int32) = nI 40 from rfl, ss, g_sign h (by omega) a2, zb2_at, ss, if_pos z, if_pos kk1]
    unfold g_X6_atom_44 g_X6_atom_132 g_X6_atom_142
    rw [m3_11]
    by_cases y : d = 6
    · rw [if_neg (y6 y), if_pos y, g_wrong, zb2_at]
      exact ⟨0, sk T p, _, by omega, Or.inl rfl, rfl⟩
    · rw [if_pos (x6 y), if_neg y, zl_at, m3_s11, if_pos rfl, zl_at, m3_9, m3_s9, nI_1, nI_1]
      have hg := g_so h hB (hb (d + 1)) (fun q hq => hr q hq (by omega)) (show sk T p + 1 ≤ n by omega)
      have hbb := pSo_b h.1 (hb (d + 1)) (show sk T p + 1 ≤ n by omega)
      generalize pSo T (ra' (d + 1)) (sk T p + 1) = r at hg hbb
      match r, hg, hbb with
      | .inl e, hg, hbb =>
        obtain ⟨v, q, d', hqB, hv, hg⟩ := hg
        have hen : e ≤ n := hbb
        rw [hg, zb2_at, m3_10, if_pos (nI_ne1 (by omega)), zl_at, m3_9, m3_s9, zl_at, m3_11, m3_s11, zbo_ok hv, nI_1]
        exact ⟨v, q + 1, _, by omega, hv, rfl⟩
      | .inr (g, q), hg, hbb =>
        have hg' : g_X6_some ra (m3 M (nI (sk T p + 1)) (-1) (nI (d + 1))) = some (b2 (g s), m3 M (nI q) (-1) (nI (d + 1))) := hg
        have hqn : q ≤ n := hbb.2
        obtain ⟨b1, bq, b3, b4⟩ := sk_spec h.1 hqn
        rw [hg', zb2_at, m3_10, if_neg nn1, show (41 : Int32) = nI 41 from rfl, g_sign h (by omega) hqn, zb2_at]
        show Rb M (nI d) (B + 1) s (if T (sk T q) = 41 then .inr (g, sk T q + 1) else .inl (sk T q)) _
        by_cases y2 : T (sk T q) = 41
        · rw [if_pos y2, if_pos y2, if_pos kk1, zl_at, m3_9, m3_s9, zl_at, m3_11, m3_s11, dn, zbo_ok (b2_01 _), nI_1]
          exact rfl
        · rw [if_neg y2, if_neg y2, if_neg kk0, m3_9, g_wrong, zb2_at, zl_at, m3_9, m3_s9, zl_at, m3_11, m3_s11, zbo_ok (b2_01 _), nI_1]
          exact ⟨_, sk T q + 1, _, by omega, b2_01 _, rfl⟩
  · rw [if_neg z]
    by_cases w : ywk 14 T (sk T p) = true
    · have hw := wk_b h.1 (by omega) a2 w
      rw [if_pos w, g_has1 h (by omega) a2 (by rw [ss]; exact w), zb2_at, if_pos kk1, ss]
      unfold g_X6_atom_44 g_X6_atom_88 g_X6_atom_142
      rw [m3_11]
      by_cases y : d = 6
      · rw [if_neg (y6 y), if_pos y, g_wrong, zb2_at]
        exact ⟨0, we T (sk T p), _, by omega, Or.inl rfl, rfl⟩
      · rw [if_pos (x6 y), if_neg y, zl_at, m3_s11, if_neg kk1, nI_1]
        have hg := hr _ hw.2 (by omega)
        generalize ra' (d + 1) (we T (sk T p)) = r at hg
        match r, hg with
        | .inl e, hg =>
          obtain ⟨v, q, d', hqB, hv, hg⟩ := hg
          rw [hg, zb2_at]
          show ∃ v q d', q ≤ B + 1 ∧ (v = 0 ∨ v = 1) ∧ _ = some (v, m3 M (nI q) (nI e) d')
          by_cases y2 : ¬ v = 0
          · rw [if_pos y2, zl_at, m3_11, m3_s11, zbo_ok (Or.inl rfl)]
            exact ⟨0, q, _, by omega, Or.inl rfl, rfl⟩
          · rw [if_neg y2, zl_at, m3_11, m3_s11, zbo_ok (Or.inr rfl)]
            exact ⟨1, q, _, by omega, Or.inr rfl, rfl⟩
        | .inr (g, q), hg =>
          have hg' : ra (m3 M (nI (we T (sk T p))) (-1) (nI (d + 1))) = some (b2 (g s), m3 M (nI q) (-1) (nI (d + 1))) := hg
          rw [hg', zb2_at]
          show _ = some (b2 (!g s), m3 M (nI q) (-1) (nI d))
          rw [zl_at, zl_at, m3_11, m3_s11, dn, zbo_ok (Or.inl rfl), zbo_ok (Or.inr rfl)]
          cases g s <;> rfl
    · rw [if_neg w, g_has0 h (by omega) a2 (by rw [ss]; exact w), zb2_at, if_neg kk0, show (40 : Int32) = nI 40 from rfl, ss, g_sign h (by omega) a2, zb2_at, ss, if_neg z, if_neg kk0]
      have hg := g_plain (d := nI d) h hB hs a2
      generalize pPlain T (sk T p) = r at hg
      match r, hg with
      | .inl e, hg =>
        obtain ⟨v, q, d', hqB, hv, hg⟩ := hg
        rw [hg, zb2_at, zbo_ok hv]
        exact ⟨v, q, _, by omega, hv, rfl⟩
      | .inr (g, q), hg =>
        have hg' : g_X6_plain (m3 M (nI (sk T p)) (-1) (nI d)) = some (b2 (g s), m3 M (nI q) (-1) (nI d)) := hg
        rw [hg', zb2_at, zbo_ok (b2_01 _)]
        exact rfl
theorem g_atomD (h : yTM M T n) (hs : ySM M s) : ∀ k d, d ≤ 6 → 7 ≤ k + d → ∀ q, q ≤ n → Rb M (nI d) (n + 7 - d) s (pAtomD T k d q) (g_X6_atomD k (m3 M (nI q) (-1) (nI d))) := by
  intro k
  induction k with
  | zero => intro d h1 h2; omega
  | succ k ih =>
    intro d h1 h2 q hq
    have := g_atom (B := n + 6 - d) h (by omega) hs h1 (fun d q hq => pAtomD_b h.1 k d q hq) (fun q hq hd => by
      have := ih (d + 1) (by omega) (by omega) q hq
      rwa [show n + 7 - (d + 1) = n + 6 - d by omega] at this) hq
    rwa [show n + 6 - d + 1 = n + 7 - d by omega] at this
/-- what a line of the law leaves in the model -/
theorem g_lawLine {M : mS} (h : yTM M T n) (hs : ySM M s) (hp : p ≤ n) (hv : M.1 16 = -1 ∨ bd 99 (M.1 16)) : match pLine T p with
    | .inl e => ∃ q d' y, q ≤ n + 10 ∧ g_X6_lawLine (m3 M (nI p) (-1) 0) = some ((), m3 (mset M 16 y) (nI q) (nI e) d')
    | .inr ((v, g), q) => ∃ q0, sk T q0 = sk T q ∧ q0 ≤ n ∧ g_X6_lawLine (m3 M (nI p) (-1) 0) = some ((), m3 (mset M 16 (if M.1 16 = -1 ∧ g s = true then nI v else M.1 16)) (nI q0) (-1) 0) := by
  have hn := h.1.1
  obtain ⟨a1, a2, a3, a4⟩ := sk_spec h.1 hp
  have ss := sk_sk h.1 hp
  have id16 : ∀ q e d, m3 M q e d = m3 (mset M 16 (M.1 16)) q e d := by
    intro q e d
    refine Prod.ext (funext fun k => ?_) rfl
    show (if k = 9 then q else if k = 10 then e else if k = 11 then d else M.1 k) = (if k = 9 then q else if k = 10 then e else if k = 11 then d else if k = 16 then M.1 16 else M.1 k)
    by_cases z : k = 16
    · rw [if_pos z, z]
    · rw [if_neg z]
  have s16 : ∀ q e d y, mset (m3 M q e d) 16 y = m3 (mset M 16 y) q e d := by
    intro q e d y
    refine Prod.ext (funext fun k => ?_) rfl
    show (if k = 16 then y else if k = 9 then q else if k = 10 then e else if k = 11 then d else M.1 k) = (if k = 9 then q else if k = 10 then e else if k = 11 then d else if k = 16 then y else M.1 k)
    by_cases z : k = 16
    · rw [if_pos z, if_neg (by omega), if_neg (by omega), if_neg (by omega), if_pos z]
    · rw [if_neg z, if_neg (c := k = 16) z]
  have L57 : ∀ (v : Nat) (t0 : Int32) q d (g : Bool), (t0 = 0 → g = false) → (t0 = 1 → g = true) → (t0 = 0 ∨ t0 = 1) → g_X6_lawLine_57 (nI v) t0 (m3 M q (-1) d) = some ((), m3 (mset M 16 (if M.1 16 = -1 ∧ g = true then nI v else M.1 16)) q (-1) d) := by
    intro v t0 q d g h0 h1 h01
    unfold g_X6_lawLine_57
    rw [m3_10, if_neg nn1]
    rcases h01 with z | z
    · rw [if_pos z, if_neg (fun w => by rw [h0 z] at w; exact absurd w.2 (by decide)), ← id16]
    · rw [if_neg (by rw [z]; exact kk1)]
      show (if ¬ M.1 16 = -1 then _ else _) = _
      by_cases y : M.1 16 = -1
      · rw [if_neg (fun q => q y), if_pos ⟨y, h1 z⟩, zl_at, s16]
      · rw [if_pos y, if_neg (fun w => y w.1), ← id16]
  unfold g_X6_lawLine pLine
  by_cases w : ywk 12 T (sk T p) = true
  · have hw := wk_b h.1 (by omega) a2 w
    rw [if_pos w, g_has1 h (by omega) hp w, zb2_at, if_pos kk1]
    have hf : Rg M 0 n (fun v => nI v) (pFig 0 100 3 T (we T (sk T p))) (g_X6_figures 0 99 3 (m3 M (nI (we T (sk T p))) (-1) 0)) := g_fig h (Nat.le_refl n) hw.2 (ylo := 0) (hi := 100) (dg := 3) (hI := 99) (by omega) (by omega) (fun v hv => by rw [show (99 : Int32) = nI 99 from rfl, nI_leI (by omega) (by omega)]; omega)
    have hbb := pFig_b h.1 hw.2 (ylo := 0) (hi := 100) (dg := 3)
    generalize pFig 0 100 3 T (we T (sk T p)) = r at hf hbb
    match r, hf, hbb with
    | .inl e, hf, hbb =>
      obtain ⟨v, q, d', hqB, hg⟩ := hf
      have hen : e ≤ n := hbb
      rw [hg, zb2_at, m3_10, if_neg (nI_ne1 (by omega))]
      exact ⟨q, d', M.1 16, by omega, by rw [← id16]⟩
    | .inr (v, q), hf, hbb =>
      have hg : g_X6_figures 0 99 3 (m3 M (nI (we T (sk T p))) (-1) 0) = some (nI v, m3 M (nI q) (-1) 0) := hf
      have hqn : q ≤ n := hbb.2
      obtain ⟨b1, bq, b3, b4⟩ := sk_spec h.1 hqn
      have ssq := sk_sk h.1 hqn
      rw [hg, zb2_at, m3_10, if_pos rfl]
      show match (if ywk 13 T (sk T q) = true then (match pSo T (pAtomD T 9 0) (we T (sk T q)) with
      | .inl e => .inl e
      | .inr (g, r) => .inr ((v, g), r)) else .inr ((v, fun _ => true), sk T q) : pR9 (Nat × Co9)) with
        | .inl e => _
        | .inr ((v, g), q) => _
      by_cases w2 : ywk 13 T (sk T q) = true
      · have hw2 := wk_b h.1 (by omega) bq w2
        rw [if_pos w2, g_has1 h (by omega) hqn w2, zb2_at, if_neg kk1]
        have hg2 : Rb M 0 (n + 7) s (pSo T (pAtomD T 9 0) (we T (sk T q))) (g_X6_some (g_X6_atomD 9) (m3 M (nI (we T (sk T q))) (-1) 0)) := g_so h (by omega) (fun q hq => pAtomD_b h.1 9 0 q hq) (fun q hq => g_atomD h hs 9 0 (by omega) (by omega) q hq) hw2.2
        have hb2 := pSo_b h.1 (fun q hq => pAtomD_b h.1 9 0 q hq) hw2.2
        generalize pSo T (pAtomD T 9 0) (we T (sk T q)) = r at hg2 hb2
        match r, hg2, hb2 with
        | .inl e, hg2, hb2 =>
          obtain ⟨v2, q2, d', hqB, hv2, hg2⟩ := hg2
          have hen : e ≤ n := hb2
          rw [hg2, zb2_at]
          unfold g_X6_lawLine_52 g_X6_lawLine_57
          rw [m3_10, if_pos (nI_ne1 (show e ≤ 1000 by omega))]
          have e' : (if v2 = 0 then some ((), m3 M (nI q2) (nI e) d') else some ((), m3 M (nI q2) (nI e) d')) = some ((), m3 M (nI q2) (nI e) d') := by
            by_cases z : v2 = 0
            · rw [if_pos z]
            · rw [if_neg z]
          rw [if_pos (nI_ne1 (show e ≤ 1000 by omega)), e']
          exact ⟨q2, d', M.1 16, by omega, by rw [← id16]⟩
        | .inr (g, r), hg2, hb2 =>
          have hg2' : g_X6_some (g_X6_atomD 9) (m3 M (nI (we T (sk T q))) (-1) 0) = some (b2 (g s), m3 M (nI r) (-1) 0) := hg2
          rw [hg2', zb2_at]
          refine ⟨r, rfl, hb2.2, ?_⟩
          show (if b2 (g s) = 0 then _ else _) = some ((), m3 (mset M 16 (if M.1 16 = -1 ∧ g s = true then nI v else M.1 16)) (nI r) (-1) 0)
          unfold g_X6_lawLine_52
          cases hgs : g s with
          | false =>
            rw [if_pos (show b2 false = 0 from rfl)]
            exact L57 v 0 _ _ false (fun _ => rfl) (fun q => absurd q (by decide)) (Or.inl rfl)
          | true =>
            rw [if_neg (show ¬ b2 true = 0 from kk1)]
            exact L57 v 1 _ _ true (fun q => absurd q (by decide)) (fun _ => rfl) (Or.inr rfl)
      · rw [if_neg w2, g_has0 h (by omega) hqn w2, zb2_at, if_pos rfl]
        refine ⟨sk T q, rfl, bq, ?_⟩
        unfold g_X6_lawLine_52
        exact L57 v 1 _ _ true (fun q => absurd q (by decide)) (fun _ => rfl) (Or.inr rfl)
  · rw [if_neg w, g_has0 h (by omega) hp w, zb2_at, if_neg kk0, m3_9, g_wrong, zb2_at]
    exact ⟨sk T p, _, M.1 16, by omega, by rw [← id16]⟩
end ZT6
def ye16 (o : Option Nat) : Int32 := match o with
  | some x => nI x
  | none => -1
section ZT7
variable {M : mS} {T : Nat → Nat} {n p B : Nat} {e x : Int32} {s : Sc9}
theorem TM_16 {y : Int32} (h : yTM M T n) : yTM (mset M 16 y) T n := h
theorem SM_16 {y : Int32} (h : ySM M s) : ySM (mset M 16 y) s := h
/-- skipping behind an error -/
theorem g_skipE (h : yTM M T n) {q : Nat} {e d : Int32} (hq : q ≤ 1000) : ∃ q', q' ≤ 1000 ∧ g_X6_skip (m3 M (nI q) e d) = some ((), m3 M (nI q') e d) := by
  have hn := h.1.1
  rcases Nat.lt_or_ge n q with z | z
  · refine ⟨q, hq, ?_⟩
    unfold g_X6_skip g_X6_skip_0
    show g_X6_skip_0_b _ _ = _
    unfold g_X6_skip_0_b
    rw [m3_8, m3_9, h.2.1, if_pos (nI_le (by omega) (by omega))]
  · exact ⟨sk T q, by have := (sk_spec h.1 z).2.1; omega, g_skip h z⟩
theorem m316 {y z : Int32} : mset (mset M 16 y) 16 z = mset M 16 z := by
  refine Prod.ext (funext fun k => ?_) rfl
  show (if k = 16 then z else if k = 16 then y else M.1 k) = if k = 16 then z else M.1 k
  by_cases w : k = 16
  · rw [if_pos w, if_pos w]
  · rw [if_neg w, if_neg w, if_neg w]
theorem e16_ne {o : Option Nat} (h : ∀ x, o = some x → x ≤ 1000) : (ye16 o = -1) = (o = none) := by
  cases o with
  | none => exact propext ⟨fun _ => rfl, fun _ => rfl⟩
  | some x => exact propext ⟨fun q => absurd q (nI_ne1 (h x rfl)), fun q => by cases q⟩
/-- the lines of a law -/
theorem g_rd (h : yTM M T n) (hs : ySM M s) : ∀ k l f p fu, l + k = 13 → p ≤ n → k < fu → (∀ s x, f s = some x → x ≤ 99) → match pLaw T k l f p with
    | .inl e => ∃ v q d' y, q ≤ 1000 ∧ zlp2 (g_X6_read_23_b 1) fu 1 (nI l) (m3 (mset M 16 (ye16 (f s))) (nI p) (-1) 0) = some (v, m3 (mset M 16 y) (nI q) (nI e) d')
    | .inr ((l', f'), q) => k ≠ 0 → ∃ q0, zlp2 (g_X6_read_23_b 1) fu 1 (nI l) (m3 (mset M 16 (ye16 (f s))) (nI p) (-1) 0) = some (nI l', m3 (mset M 16 (ye16 (f' s))) (nI q0) (-1) 0) ∧ ∀ s x, f' s = some x → x ≤ 99 := by
  have hn := h.1.1
  have er : ∀ l (M1 : mS) q (e : Nat) d' fu, e ≤ n → 0 < fu → zlp2 (g_X6_read_23_b 1) fu 1 l (m3 M1 q (nI e) d') = some (l, m3 M1 q (nI e) d') := by
    intro l M1 q e d' fu he hfu
    obtain ⟨fu, rfl⟩ : ∃ f', fu = f' + 1 := ⟨fu - 1, by omega⟩
    show g_X6_read_23_b 1 _ _ _ _ = _
    unfold g_X6_read_23_b
    rw [if_neg kk1, m3_10, if_pos (nI_ne1 (by omega))]
  have en : ∀ l (M1 : mS) fu, 0 < fu → zlp2 (g_X6_read_23_b 1) fu 0 l M1 = some (l, M1) := by
    intro l M1 fu hfu
    obtain ⟨fu, rfl⟩ : ∃ f', fu = f' + 1 := ⟨fu - 1, by omega⟩
    show g_X6_read_23_b 1 _ _ _ _ = _
    unfold g_X6_read_23_b
    rw [if_pos rfl]
  intro k
  induction k with
  | zero => intro l f p fu h0 h1 h2 h3 h4; exact absurd rfl h4
  | succ k ih =>
    intro l f p fu hl hp hfu hf
    obtain ⟨fu, rfl⟩ : ∃ f', fu = f' + 1 := ⟨fu - 1, by omega⟩
    obtain ⟨a1, a2, a3, a4⟩ := sk_spec h.1 hp
    have ss := sk_sk h.1 hp
    have h16 := TM_16 (y := ye16 (f s)) h
    have ih' := fun l' f' p' => ih l' f' p' fu
    have er' := fun l M1 q e d' he => er l M1 q e d' fu he (by omega)
    have en' := fun l M1 => en l M1 fu (by omega)
    show match pLaw T (k + 1) l f p with
      | .inl e => ∃ v q d' y, q ≤ 1000 ∧ g_X6_read_23_b 1 (zlp2 (g_X6_read_23_b 1) fu) 1 (nI l) (m3 (mset M 16 (ye16 (f s))) (nI p) (-1) 0) = some (v, m3 (mset M 16 y) (nI q) (nI e) d')
      | .inr ((l', f'), q) => k + 1 ≠ 0 → ∃ q0, g_X6_read_23_b 1 (zlp2 (g_X6_read_23_b 1) fu) 1 (nI l) (m3 (mset M 16 (ye16 (f s))) (nI p) (-1) 0) = some (nI l', m3 (mset M 16 (ye16 (f' s))) (nI q0) (-1) 0) ∧ ∀ s x, f' s = some x → x ≤ 99
    generalize zlp2 (g_X6_read_23_b 1) fu = rf at ih' er' en'
    have head : g_X6_read_23_b 1 rf 1 (nI l) (m3 (mset M 16 (ye16 (f s))) (nI p) (-1) 0) = g_X6_read_51 rf 1 1 (nI l) (nI l) 12 (m3 (mset M 16 (ye16 (f s))) (nI (sk T p)) (-1) 0) := by
      unfold g_X6_read_23_b
      rw [if_neg kk1, m3_10, if_neg nn1, g_skip h16 hp, zb2_at, if_neg kk1]
    rw [head]
    unfold g_X6_read_51
    -- what comes behind an error
    have tail : ∀ (M1 : mS) q (e : Nat) d', yTM M1 T n → q ≤ 1000 → e ≤ n → ∃ v q', q' ≤ 1000 ∧ g_X6_read_80 rf 1 1 (nI l) (m3 M1 (nI q) (nI e) d') = some (v, m3 M1 (nI q') (nI e) d') := by
      intro M1 q e d' hT hq he
      obtain ⟨q', hq', hsk⟩ := g_skipE (e := nI e) (d := d') hT hq
      refine ⟨nI l + 1, q', hq', ?_⟩
      unfold g_X6_read_80 g_X6_read_106
      rw [zl_at, hsk, zb2_at, m3_10, if_pos (nI_ne1 (by omega)), en']
    have l12 : (nI l = 12) = (l = 12) := by rw [show (12 : Int32) = nI 12 from rfl]; exact nI_inj (by omega) (by omega)
    unfold pLaw
    by_cases z : l = 12
    · rw [if_pos z]
      have z' : ¬ ¬ (nI l = 12) := fun q => q (l12.mpr z)
      rw [if_neg z', m3_9, g_wrong, zb2_at]
      obtain ⟨v, q', hq', ht⟩ := tail (mset M 16 (ye16 (f s))) (sk T p) (sk T p) 0 h16 (by omega) a2
      rw [ht]
      exact ⟨v, q', _, _, hq', rfl⟩
    · rw [if_neg z]
      have z' : ¬ (nI l = 12) := fun q => z (l12.mp q)
      rw [if_pos z', if_neg kk1]
      have hL := g_lawLine (M := mset M 16 (ye16 (f s))) h16 (SM_16 hs) a2 (by
        show ye16 (f s) = -1 ∨ bd 99 (ye16 (f s))
        cases hfs : f s with
        | none => exact Or.inl rfl
        | some x => exact Or.inr ⟨x, hf s x hfs, rfl⟩)
      have hb := pLine_b h.1 a2
      have hpe : pLine T (sk T p) = pLine T p := by unfold pLine; rw [ss]
      rw [hpe] at hL hb
      have hvb : ∀ v g q, pLine T p = .inr ((v, g), q) → v ≤ 99 := by
        intro v g q e
        unfold pLine at e
        by_cases w : ywk 12 T (sk T p) = true
        · rw [if_pos w] at e
          have hfg : ∀ v q, pFig 0 100 3 T (we T (sk T p)) = .inr (v, q) → v ≤ 99 := by
            intro v q e
            unfold pFig at e
            split at e
            · cases e
            · next hc =>
              cases e
              have : ¬ ¬ (0 ≤ vl T (sk T (we T (sk T p))) (ne T (sk T (we T (sk T p))) - sk T (we T (sk T p))) ∧ vl T (sk T (we T (sk T p))) (ne T (sk T (we T (sk T p))) - sk T (we T (sk T p))) < 100) := fun q => hc (Or.inr (Or.inr q))
              have := (Classical.not_not.mp this).2
              omega
          generalize pFig 0 100 3 T (we T (sk T p)) = r at e hfg
          match r, e, hfg with
          | .inl _, e, _ => cases e
          | .inr (v1, q1), e, hfg =>
            have hv1 := hfg v1 q1 rfl
            have e' : (if ywk 13 T (sk T q1) = true then (match pSo T (pAtomD T 9 0) (we T (sk T q1)) with
      | .inl e => .inl e
      | .inr (g, r) => .inr ((v1, g), r)) else .inr ((v1, fun _ => true), sk T q1) : pR9 (Nat × Co9)) = .inr ((v, g), q) := e
            by_cases w2 : ywk 13 T (sk T q1) = true
            · rw [if_pos w2] at e'
              generalize pSo T (pAtomD T 9 0) (we T (sk T q1)) = r at e'
              match r, e' with
              | .inl _, e' => cases e'
              | .inr (g2, q2), e' => cases e'; exact hv1
            · rw [if_neg w2] at e'
              cases e'; exact hv1
        · rw [if_neg w] at e; cases e
      generalize pLine T p = r at hL hb hvb
      match r, hL, hb, hvb with
      | .inl e, hL, hb, _ =>
        obtain ⟨q, d', y, hq, hg⟩ := hL
        have hen : e ≤ n := hb
        rw [m316] at hg
        rw [hg, zb2_at]
        obtain ⟨v, q', hq', ht⟩ := tail (mset M 16 y) q e d' h (by omega) hen
        rw [ht]
        exact ⟨v, q', d', y, hq', rfl⟩
      | .inr ((v, g), q), hL, hb, hvb =>
        have hv9 := hvb v g q rfl
        obtain ⟨q0, hq0, hq0n, hg⟩ := hL
        have hqn : q ≤ n := hb.2
        obtain ⟨b1, bq, b3, b4⟩ := sk_spec h.1 hqn
        rw [m316] at hg
        -- what is told now
        have hnew : (if (mset M 16 (ye16 (f s))).1 16 = -1 ∧ g s = true then nI v else (mset M 16 (ye16 (f s))).1 16) = ye16 (lnx f v g s) := by
          have e1 : (mset M 16 (ye16 (f s))).1 16 = ye16 (f s) := rfl
          rw [e1]
          show _ = ye16 (match f s with
            | some x => some x
            | none => if g s = true then some v else none)
          cases hfs : f s with
          | none =>
            show (if (-1 : Int32) = -1 ∧ g s = true then nI v else -1) = ye16 (if g s = true then some v else none)
            by_cases y : g s = true
            · rw [if_pos ⟨rfl, y⟩, if_pos y]; rfl
            · rw [if_neg (fun w => y w.2), if_neg y]; rfl
          | some x =>
            show (if nI x = -1 ∧ g s = true then nI v else nI x) = nI x
            rw [if_neg (fun w => nI_ne1 (by have := hf s x hfs; omega) w.1)]
        have hFb : ∀ s x, lnx f v g s = some x → x ≤ 99 := by
          intro s x e
          unfold lnx at e
          cases hfs : f s with
          | none =>
            rw [hfs] at e
            have e' : (if g s = true then some v else none) = some x := e
            by_cases y : g s = true
            · rw [if_pos y] at e'; cases e'; exact hv9
            · rw [if_neg y] at e'; cases e'
          | some y =>
            rw [hfs] at e
            have e' : some y = some x := e
            cases e'
            exact hf s x hfs
        rw [hnew] at hg
        rw [hg, zb2_at]
        have hT2 : yTM (mset M 16 (ye16 (lnx f v g s))) T n := h
        unfold g_X6_read_80
        rw [zl_at, g_skip hT2 hq0n, zb2_at, m3_10, if_neg nn1, m3_9, m3_8, hT2.2.1, hq0, nI_1]
        show match (if T (sk T q) = 256 then .inr ((l + 1, lnx f v g), sk T q) else if T (sk T q) = 59 then pLaw T k (l + 1) (lnx f v g) (sk T q + 1) else .inl (sk T q) : pR9 (Nat × (Sc9 → Option Nat))) with
          | .inl e => _
          | .inr ((l', f'), q) => _
        by_cases y : T (sk T q) = 256
        · have hnn : sk T q = n := by
            rcases Nat.lt_or_ge (sk T q) n with w | w
            · have := h.1.2.1 _ w; omega
            · omega
          rw [if_pos y]
          intro _
          have y' : ¬ ¬ (nI (sk T q) = nI n) := fun w => w (by rw [hnn])
          unfold g_X6_read_106
          rw [if_neg y', en']
          exact ⟨_, rfl, hFb⟩
        · have hlt : sk T q < n := by
            rcases Nat.lt_or_ge (sk T q) n with w | w
            · exact w
            · exact absurd (h.1.2.2 _ w) y
          have y' : ¬ (nI (sk T q) = nI n) := by rw [nI_inj (by omega) (by omega)]; omega
          rw [if_neg y, if_pos y', show (59 : Int32) = nI 59 from rfl, g_sign hT2 (by omega) bq, zb2_at, sk_sk h.1 hqn]
          by_cases w : T (sk T q) = 59
          · rw [if_pos w, if_pos w, if_neg kk1, zl_at, m3_9, m3_s9, nI_1]
            have key := ih' (l + 1) (lnx f v g) (sk T q + 1) (by omega) (by omega) (by omega) hFb
            have hk0 : k ≠ 0 := by omega
            generalize pLaw T k (l + 1) (lnx f v g) (sk T q + 1) = r2 at key
            match r2, key with
            | .inl e2, key => exact key
            | .inr ((l2, f2), q2), key => exact fun _ => key hk0
          · rw [if_neg w, if_neg w, if_pos rfl, m3_9, g_wrong, zb2_at, er' _ _ _ _ _ bq]
            exact ⟨_, sk T q, _, _, by omega, rfl⟩
/-- the model reads a law -/
theorem g_read1 (h : yTM M T n) (hs : ySM M s) (h16 : M.1 16 = -1) : match pRead T with
    | .inl e => ∃ v q d' y, q ≤ 1000 ∧ g_X6_read 1 (m3 M 0 (-1) 0) = some (v, m3 (mset M 16 y) (nI q) (nI e) d')
    | .inr ((l, f), q) => ∃ q0, g_X6_read 1 (m3 M 0 (-1) 0) = some (nI l, m3 (mset M 16 (ye16 (f s))) (nI q0) (-1) 0) ∧ ∀ s x, f s = some x → x ≤ 99 := by
  have hn := h.1.1
  obtain ⟨a1, a2, a3, a4⟩ := sk_spec h.1 (Nat.zero_le n)
  have id16 : ∀ q e d, m3 M q e d = m3 (mset M 16 (-1)) q e d := by
    intro q e d
    refine Prod.ext (funext fun k => ?_) rfl
    show (if k = 9 then q else if k = 10 then e else if k = 11 then d else M.1 k) = (if k = 9 then q else if k = 10 then e else if k = 11 then d else if k = 16 then -1 else M.1 k)
    by_cases z : k = 16
    · rw [if_pos z, z, h16]
    · rw [if_neg z]
  unfold g_X6_read pRead g_X6_read_20 g_X6_read_23
  rw [show (0 : Int32) = nI 0 from rfl, g_skip h (Nat.zero_le n), zb2_at, m3_8, m3_9, h.2.1]
  by_cases z : T (sk T 0) = 256
  · have hnn : sk T 0 = n := by
      rcases Nat.lt_or_ge (sk T 0) n with w | w
      · have := h.1.2.1 _ w; omega
      · omega
    rw [if_pos z, hnn, if_pos (nI_le (Nat.le_refl n) (by omega))]
    refine ⟨n, ?_, fun s x e => by cases e⟩
    show g_X6_read_23_b 1 _ _ _ _ = _
    unfold g_X6_read_23_b
    rw [show nI 0 = (0 : Int32) from rfl, if_pos rfl]
    rw [id16]
    rfl
  · have hlt : sk T 0 < n := by
      rcases Nat.lt_or_ge (sk T 0) n with w | w
      · exact w
      · exact absurd (h.1.2.2 _ w) z
    rw [if_neg z, nleF hlt (by omega)]
    have key := g_rd h hs 13 0 (fun _ => none) (sk T 0) NN (by omega) a2 (NN_lt (by omega)) (fun s x e => by cases e)
    have hpe : pLaw T 13 0 (fun _ => none) (sk T 0) = pLaw T 13 0 (fun _ => none) 0 := by
      have ss := sk_sk h.1 (Nat.zero_le n)
      have hl : pLine T (sk T 0) = pLine T 0 := by unfold pLine; rw [ss]
      show (if 0 = 12 then _ else match pLine T (sk T 0) with
        | .inl e => _
        | .inr ((v, g), q) => _) = (if 0 = 12 then _ else match pLine T 0 with
        | .inl e => _
        | .inr ((v, g), q) => _)
      rw [ss, hl]
    rw [hpe] at key
    rw [show nI 0 = (0 : Int32) from rfl, id16]
    generalize pLaw T 13 0 (fun _ => none) 0 = r at key
    match r, key with
    | .inl e, key => exact key
    | .inr ((l, f), q), key => exact key (by omega)
end ZT7
/-- the number that a law f tells the component's scene -/
def nbF (f : Sc9 → Option Nat) (U : cU) : Option Int32 := some (nI ((f (fun k => U.1 (14 + k))).getD 0))
/-- the row that holds the text T as its law -/
def LR (m : Nat → Int32) (T : Nat → Nat) (n l : Nat) : Prop := Tx T n ∧ m 10 = nI l ∧ m 11 = nI n ∧ ∀ p, p < n → m (542 + p) = nI (T p)
theorem LK_of {m : Nat → Int32} {T : Nat → Nat} {n l q : Nat} {f : Sc9 → Option Nat} (h : LR m T n l) (hl : l ≤ 12) (hp : pRead T = .inr ((l, f), q)) : LK true (nbF f) m := by
  obtain ⟨hT, h10, h11, ht⟩ := h
  have hn := hT.1
  refine Or.inr ⟨rfl, by rw [h10]; exact nI_ne1 (by omega), fun s0 s1 s2 s3 s4 s5 s6 q5 q6 => ?_⟩
  let s : Sc9 := fun k => match k with
    | 0 => s0
    | 1 => s1
    | 2 => s2
    | 3 => s3
    | 4 => s4
    | 5 => s5
    | 6 => s6
    | _ => 0
  -- the scene behind the seventh does not count
  have hcg : ∀ (U : cU), U.1 14 = s0 → U.1 15 = s1 → U.1 16 = s2 → U.1 17 = s3 → U.1 18 = s4 → U.1 19 = s5 → U.1 20 = s6 → (f (fun k => U.1 (14 + k))) = f s := by
    intro U a0 a1 a2 a3 a4 a5 a6
    -- both are what the model reads
    let M0 : mS := (fun k => if k = 7 then 542 else if k = 8 then nI n else if k = 13 then s0 else if k = 14 then s5 else if k = 15 then s6 else if k = 16 then -1 else 0, fun j => if j = 0 then m else fun k => if k = 0 then s1 else if k = 1 then s2 else if k = 2 then s3 else s4)
    have tm : yTM M0 T n := ⟨hT, rfl, Or.inr ⟨rfl, fun p hp => ht p hp⟩⟩
    have g1 := g_read1 (M := M0) (s := s) tm ⟨rfl, rfl, rfl, ⟨rfl, rfl, rfl, rfl⟩, q5, q6⟩ rfl
    have g2 := g_read1 (M := M0) (s := fun k => U.1 (14 + k)) tm ⟨a0.symm, a5.symm, a6.symm, ⟨a1.symm, a2.symm, a3.symm, a4.symm⟩, by show U.1 19 = 0 ∨ U.1 19 = 1; rw [a5]; exact q5, by show U.1 20 = 0 ∨ U.1 20 = 1; rw [a6]; exact q6⟩ rfl
    rw [hp] at g1 g2
    obtain ⟨p1, e1, b1⟩ := g1
    obtain ⟨p2, e2, b2⟩ := g2
    rw [e1] at e2
    have e3 := congrArg (fun o => o.map (fun z => z.2.1 16)) e2
    have e4 : some (ye16 (f s)) = some (ye16 (f (fun k => U.1 (14 + k)))) := e3
    have e5 := Option.some.inj e4
    cases hA : f s with
    | none =>
      rw [hA] at e5
      have := e16_ne (o := f (fun k => U.1 (14 + k))) (fun x hx => by have := b1 _ _ hx; omega)
      rw [← e5] at this
      exact this.mp rfl
    | some x =>
      have hx := b1 _ _ hA
      cases hB : f (fun k => U.1 (14 + k)) with
      | none =>
        rw [hA, hB] at e5
        exact absurd e5 (nI_ne1 (by omega))
      | some y =>
        have hy := b1 _ _ hB
        rw [hA, hB] at e5
        have e6 : nI x = nI y := e5
        rw [(nI_eq (by omega) (by omega)).mp e6]
  -- bounds
  let M0 : mS := (fun k => if k = 7 then 542 else if k = 8 then nI n else if k = 13 then s0 else if k = 14 then s5 else if k = 15 then s6 else if k = 16 then -1 else 0, fun j => if j = 0 then m else fun k => if k = 0 then s1 else if k = 1 then s2 else if k = 2 then s3 else s4)
  have tm : yTM M0 T n := ⟨hT, rfl, Or.inr ⟨rfl, fun p hp => ht p hp⟩⟩
  have g1 := g_read1 (M := M0) (s := s) tm ⟨rfl, rfl, rfl, ⟨rfl, rfl, rfl, rfl⟩, q5, q6⟩ rfl
  rw [hp] at g1
  obtain ⟨-, -, hb⟩ := g1
  refine ⟨nI ((f s).getD 0), ⟨(f s).getD 0, ?_, rfl⟩, fun U a0 a1 a2 a3 a4 a5 a6 => ?_, fun M z7 z8 z9 z10 z11 z13 z14 z15 z16 f0 f1 f2 f3 hj => ?_⟩
  · cases hA : f s with
    | none => exact Nat.zero_le _
    | some x => exact hb _ _ hA
  · unfold nbF
    rw [hcg U a0 a1 a2 a3 a4 a5 a6]
  · have hM : m3 M 0 (-1) 0 = M := by
      refine Prod.ext (funext fun k => ?_) rfl
      show (if k = 9 then 0 else if k = 10 then -1 else if k = 11 then 0 else M.1 k) = M.1 k
      by_cases c9 : k = 9
      · rw [if_pos c9, c9, z9]
      · by_cases c10 : k = 10
        · rw [if_neg c9, if_pos c10, c10, z10]
        · by_cases c11 : k = 11
          · rw [if_neg c9, if_neg c10, if_pos c11, c11, z11]
          · rw [if_neg c9, if_neg c10, if_neg c11]
    have tm2 : yTM M T n := ⟨hT, z8.trans h11, Or.inr ⟨z7, fun p hp => by rw [hj (542 + p) (by omega) (by omega)]; exact ht p hp⟩⟩
    have g2 := g_read1 (M := M) (s := s) tm2 ⟨z13, z14, z15, ⟨f0, f1, f2, f3⟩, q5, q6⟩ z16
    rw [hp, hM] at g2
    obtain ⟨p2, e2, -⟩ := g2
    refine ⟨nI l, _, e2, rfl, fun k k9 k10 k11 k16 => ?_, ?_⟩
    · show (if k = 9 then _ else if k = 10 then _ else if k = 11 then _ else if k = 16 then _ else M.1 k) = M.1 k
      rw [if_neg k9, if_neg k10, if_neg k11, if_neg k16]
    · show ((ye16 (f s) = -1 ∧ _) ∨ (¬ ye16 (f s) = -1 ∧ _ = ye16 (f s)))
      cases hA : f s with
      | none => exact Or.inl ⟨rfl, rfl⟩
      | some x => exact Or.inr ⟨nI_ne1 (by have := hb _ _ hA; omega), rfl⟩
