section
/-! the pure pictures: what each method computes, over naturals where the code counts, over Int32 where it presses -/
def mg_m1 (v k : Int32) : Int32 := ((v ^^^ ((v.toUInt32 >>> ((15 : Int32).toUInt32 &&& Int32.toUInt32 31)).toInt32)) * 739982445) + k
def mg_m2 (x k : Int32) : Int32 := ((x ^^^ ((x.toUInt32 >>> ((12 : Int32).toUInt32 &&& Int32.toUInt32 31)).toInt32)) * 695872825) + k
def mg_m3 (x : Int32) : Int32 := x ^^^ ((x.toUInt32 >>> ((15 : Int32).toUInt32 &&& Int32.toUInt32 31)).toInt32)
def mg_mix (v k : Int32) : Int32 := mg_m3 (mg_m2 (mg_m1 v k) k)
def mg_leaf (x : Int32) : Int32 := mg_mix x 1
def mg_node (a b : Int32) : Int32 := mg_mix (mg_mix a 2 ^^^ b) 3
def mg_first : Nat → Nat
  | 0 => 0
  | 1 => 40
  | 2 => 60
  | 3 => 70
  | 4 => 75
  | _ => 77
/-- cut's loop: m turns are left -/
def mg_cutF (s : Nat) : Nat → Nat → Nat
  | 0, k => k
  | m + 1, k => if s ≤ 2 * k then k else mg_cutF s m (2 * k)
def mg_cut (s : Nat) : Nat := mg_cutF s 6 1
def mg_b : Bool → Int32
  | true => 1
  | false => 0
/-- rangeRoot's loop over a width d: m turns are left, l is the level, e the end, sm whether a part was met -/
def mg_rrF (a : Nat → Int32) (d : Nat) : Nat → Nat → Int32 → Nat → Bool → Int32
  | 0, _, r, _, _ => r
  | m + 1, l, r, e, sm =>
    if d / 2 ^ l % 2 = 0 then mg_rrF a d m (l + 1) r e sm
    else mg_rrF a d m (l + 1) (match sm with
      | true => mg_node (a (mg_first l + (e - 2 ^ l) / 2 ^ l)) r
      | false => a (mg_first l + (e - 2 ^ l) / 2 ^ l)) (e - 2 ^ l) true
def mg_rr (a : Nat → Int32) (lo hi : Nat) : Int32 := mg_rrF a (hi - lo) 6 0 0 hi false
/-- path's loop: m turns are left; f roots are found, d holds them -/
def mg_pathF (a : Nat → Int32) (e : Nat) : Nat → Nat → Nat → Nat → (Nat → Int32) → Nat → Int32
  | 0, _, _, _, d => d
  | m + 1, lo, hi, f, d =>
    if hi - lo ≤ 1 then d
    else if lo + mg_cut (hi - lo) ≤ e then mg_pathF a e m (lo + mg_cut (hi - lo)) hi (f + 1) (upd d f (mg_rr a lo (lo + mg_cut (hi - lo))))
    else mg_pathF a e m lo (lo + mg_cut (hi - lo)) (f + 1) (upd d f (mg_rr a (lo + mg_cut (hi - lo)) hi))
/-- how many it finds -/
def mg_lenF (e : Nat) : Nat → Nat → Nat → Nat
  | 0, _, _ => 0
  | m + 1, lo, hi =>
    if hi - lo ≤ 1 then 0
    else if lo + mg_cut (hi - lo) ≤ e then mg_lenF e m (lo + mg_cut (hi - lo)) hi + 1
    else mg_lenF e m lo (lo + mg_cut (hi - lo)) + 1
def mg_len (e s : Nat) : Nat := mg_lenF e 6 0 s
/-- the row found from the top down -/
def mg_D (a : Nat → Int32) (e s : Nat) : Nat → Int32 := mg_pathF a e 6 0 s 0 (fun _ => 0)
/-- rootFrom's inner loop: m turns are left -/
def mg_sk : Nat → Nat → Nat → Nat × Nat
  | 0, t, la => (t, la)
  | m + 1, t, la => if t % 2 = 0 then mg_sk m (t / 2) (la / 2) else (t, la)
/-- rootFrom's loop: m numbers are left, the next at place k -/
def mg_rf (f : Nat → Int32) : Nat → Nat → Nat → Nat → Int32 → Int32
  | 0, _, _, la, r => if la = 0 then r else 0
  | m + 1, k, t, la, r =>
    if la = 0 then 0
    else if t % 2 = 0 ∧ t ≠ la then mg_rf f m (k + 1) (t / 2) (la / 2) (mg_node r (f k))
    else mg_rf f m (k + 1) ((mg_sk 6 t la).1 / 2) ((mg_sk 6 t la).2 / 2) (mg_node (f k) r)
/-- 'last' comes to 0 within m numbers -/
def mg_lz : Nat → Nat → Nat → Bool
  | 0, _, la => decide (la = 0)
  | m + 1, t, la =>
    if la = 0 then true
    else if t % 2 = 0 ∧ t ≠ la then mg_lz m (t / 2) (la / 2)
    else mg_lz m ((mg_sk 6 t la).1 / 2) ((mg_sk 6 t la).2 / 2)
/-- what hand answers at a count c -/
def mg_hv (a : Nat → Int32) (c : Nat) (x : Int32) : Int32 := if x < 0 then 0 else if x < nI c then a x.toNatClampNeg else 0

/-! finite facts -/
theorem mg_cut_in : ∀ s, s < 41 → 2 ≤ s → 1 ≤ mg_cut s ∧ mg_cut s < s := by decide +kernel
theorem mg_shl : ∀ l, l < 6 → (1 : Int32) <<< (nI l &&& 31) = nI (2 ^ l) := by decide +kernel
theorem mg_bit : ∀ d, d < 41 → ∀ l, l < 6 → (nI d &&& nI (2 ^ l) = 0 ↔ d / 2 ^ l % 2 = 0) := by decide +kernel
theorem mg_shr : ∀ e, e < 41 → ∀ l, l < 6 → 2 ^ l ≤ e → (nI e - nI (2 ^ l)) >>> (nI l &&& 31) = nI ((e - 2 ^ l) / 2 ^ l) := by decide +kernel
theorem mg_ix : ∀ e, e < 41 → ∀ l, l < 6 → 2 ^ l ≤ e → mg_first l + (e - 2 ^ l) / 2 ^ l < 80 := by decide +kernel
theorem mg_mod : ∀ d, d < 41 → ∀ l, l < 6 → (d / 2 ^ l % 2 = 0 → d % 2 ^ (l + 1) = d % 2 ^ l) ∧ (¬ d / 2 ^ l % 2 = 0 → d % 2 ^ (l + 1) = d % 2 ^ l + 2 ^ l ∧ d % 2 ^ l + 2 ^ l ≤ d) := by decide +kernel
/-- the law's heart: a path is as long as the way up takes -/
theorem mg_heart : ∀ s, s < 41 → ∀ e, e < s → mg_lz (mg_len e s) e (s - 1) = true := by decide +kernel
theorem mg_len_pos : ∀ s, s < 41 → ∀ e, e < s → 0 < mg_len e s → 2 ≤ s := by decide +kernel

theorem mg_lenF_le (e : Nat) : ∀ m lo hi, mg_lenF e m lo hi ≤ m := by
  intro m
  induction m with
  | zero => intro lo hi; exact Nat.le_refl 0
  | succ m ih =>
    intro lo hi
    unfold mg_lenF
    split
    · omega
    · split
      · exact Nat.succ_le_succ (ih _ _)
      · exact Nat.succ_le_succ (ih _ _)
theorem mg_len_le (e s : Nat) : mg_len e s ≤ 6 := mg_lenF_le e 6 0 s
theorem mg_sk_le : ∀ m t la, (mg_sk m t la).1 ≤ t ∧ (mg_sk m t la).2 ≤ la := by
  intro m
  induction m with
  | zero => intro t la; exact ⟨Nat.le_refl _, Nat.le_refl _⟩
  | succ m ih =>
    intro t la
    unfold mg_sk
    split
    · have := ih (t / 2) (la / 2)
      omega
    · exact ⟨Nat.le_refl _, Nat.le_refl _⟩
theorem mg_rf_congr {f g : Nat → Int32} : ∀ m k t la r, (∀ j, j < k + m → f j = g j) → mg_rf f m k t la r = mg_rf g m k t la r := by
  intro m
  induction m with
  | zero => intro k t la r h; rfl
  | succ m ih =>
    intro k t la r h
    have e : f k = g k := h k (by omega)
    have h' : ∀ j, j < k + 1 + m → f j = g j := fun j hj => h j (by omega)
    unfold mg_rf
    rw [e, ih _ _ _ _ h', ih _ _ _ _ h']
theorem mg_rf_over {f : Nat → Int32} : ∀ m k t la r, mg_lz m t la = true → mg_rf f (m + 1) k t la r = 0 := by
  intro m
  induction m with
  | zero =>
    intro k t la r h
    have e : la = 0 := of_decide_eq_true h
    unfold mg_rf
    exact if_pos e
  | succ m ih =>
    intro k t la r h
    unfold mg_lz at h
    unfold mg_rf
    split
    · rfl
    · rename_i hla
      rw [if_neg hla] at h
      split
      · rename_i hc
        rw [if_pos hc] at h
        exact ih _ _ _ _ h
      · rename_i hc
        rw [if_neg hc] at h
        exact ih _ _ _ _ h
theorem mg_rf_short {f : Nat → Int32} {s t : Nat} {r : Int32} (hs : 2 ≤ s) : mg_rf f 0 0 t (s - 1) r = 0 := if_neg (by omega)
theorem mg_hv_congr {a b : Nat → Int32} {c : Nat} (hc : c ≤ 16) (h : ∀ k, k < c → a k = b k) (x : Int32) : mg_hv a c x = mg_hv b c x := by
  unfold mg_hv
  split
  · rfl
  · rename_i h0
    split
    · rename_i h1
      obtain ⟨j, hj, rfl⟩ := nI_of h0
      rw [nI_clamp hj]
      exact h j ((nI_ltI hj (by omega)).mp h1)
    · rfl
theorem mg_hv_at {a : Nat → Int32} {c j : Nat} (hc : c ≤ 16) (h : j < c) : mg_hv a c (nI j) = a j := by
  unfold mg_hv
  rw [if_neg (nI_pos (by omega)), if_pos (nI_lt h (by omega)), nI_clamp (by omega)]
theorem mg_upd {a d : Nat → Int32} {f : Nat} (r : Int32) (h : ∀ j, j < f → a j = d j) : ∀ j, j < f + 1 → upd a f r j = upd d f r j := by
  intro j hj
  by_cases e : j = f
  · rw [e, pk_us, pk_us]
  · rw [pk_un e, pk_un e]
    exact h j (by omega)
theorem mg_and1 {n : Nat} (h : n < 2 ^ 31) : nI n &&& 1 = nI (n % 2) := pk_andN (by omega) 1 (by decide)
theorem mg_half {n : Nat} (h : n < 2 ^ 31) : nI n >>> ((1 : Int32) &&& 31) = nI (n / 2) := pk_shrN h _ 1 (by decide)
end
section
/-! one lemma a method: any state that matches the picture -/
theorem mg_mix_wp {post : Int32 → Prop} {u : St2} {v k : Int32} (h : post (mg_mix v k)) : wpX_mix post u v k := by
  unfold wpX_mix
  intro x ex y ey
  subst ex
  subst ey
  exact h
theorem mg_leaf_wp {post : Int32 → Prop} {u : St2} {v : Int32} (h : post (mg_leaf v)) : wpX_leaf post u v := by
  unfold wpX_leaf
  exact mg_mix_wp h
theorem mg_node_wp {post : Int32 → Prop} {u : St2} {a b : Int32} (a' b' : Int32) (ha : a = a') (hb : b = b') (h : post (mg_node a' b')) : wpX_node post u a b := by
  subst ha
  subst hb
  unfold wpX_node
  exact mg_mix_wp (mg_mix_wp h)
theorem mg_first_wp {post : Int32 → Prop} {u : St2} : ∀ l, l < 6 → post (nI (mg_first l)) → wpX_first post u (nI l)
  | 0, _, h => br_t rfl h
  | 1, _, h => br_f (by decide) (br_t rfl h)
  | 2, _, h => br_f (by decide) (br_f (by decide) (br_t rfl h))
  | 3, _, h => br_f (by decide) (br_f (by decide) (br_f (by decide) (br_t rfl h)))
  | 4, _, h => br_f (by decide) (br_f (by decide) (br_f (by decide) (br_f (by decide) (br_t rfl h))))
  | 5, _, h => br_f (by decide) (br_f (by decide) (br_f (by decide) (br_f (by decide) (br_f (by decide) h))))
  | _ + 6, h, _ => absurd h (by omega)
theorem mg_cut_loop {post : Int32 → Prop} {s : Nat} (hs : s ≤ 40) : ∀ m k j, j + m = 6 → k ≤ 40 → post (nI (mg_cutF s m k)) → wX_cut_4 post (nI s) (m + 1) (nI k) (nI j) := by
  intro m
  induction m with
  | zero => intro k j hj hk h; exact pk_le 6 j (fun _ => h) (fun z => absurd z (by omega))
  | succ m ih =>
    intro k j hj hk h
    have e2 : 2 * nI k = nI (2 * k) := pk_mul 2 k
    have e3 : nI k * 2 = nI (2 * k) := (pk_mul k 2).trans (congrArg nI (Nat.mul_comm k 2))
    unfold mg_cutF at h
    refine pk_le 6 j (fun z => absurd z (by omega)) (fun _ => pk_le s (2 * k) (fun z => ?_) (fun z => ?_) rfl e2)
    · rw [if_pos z] at h
      exact h
    · rw [if_neg (by omega)] at h
      exact nm_r e3 (nm_r (nI_1 j) (ih (2 * k) (j + 1) (by omega) (by omega) h))
theorem mg_cut_wp {post : Int32 → Prop} {u : St2} {x : Int32} (s : Nat) (hx : x = nI s) (hs : s ≤ 40) (h : post (nI (mg_cut s))) : wpX_cut post u x := by
  subst hx
  unfold wpX_cut
  exact ⟨7, mg_cut_loop hs 6 1 0 (by omega) (by omega) h⟩
theorem mg_rr_loop {post : Int32 → Prop} {lo hi d : Nat} {E C F : Int32} {a1 a2 a3 : Nat → Int32} (hd : lo + d = hi) (hh : hi ≤ 40) :
    ∀ m l r e sm, l + m = 6 → e + d % 2 ^ l = hi → post (mg_rrF a1 d m l r e sm) → wX_rangeRoot_11 post (nI lo) (nI hi) E C F a1 a2 a3 (m + 1) r (nI e) (mg_b sm) (nI l) := by
  intro m
  induction m with
  | zero => intro l r e sm hl he h; exact pk_le 6 l (fun _ => h) (fun z => absurd z (by omega))
  | succ m ih =>
    intro l r e sm hl he h
    have hl6 : l < 6 := by omega
    have ed : nI hi - nI lo = nI d := by rw [pk_sub (by omega)]; exact congrArg nI (by omega)
    have hm := mg_mod d (by omega) l hl6
    unfold mg_rrF at h
    refine pk_le 6 l (fun z => absurd z (by omega)) (fun _ => nm_r (mg_shl l hl6) ?_)
    rw [ed]
    refine ek_if (mg_bit d (by omega) l hl6) (fun z => ?_) (fun z => ?_)
    · rw [if_pos z] at h
      exact nm_r (nI_1 l) (ih (l + 1) r e sm (by omega) (by rw [hm.1 z]; exact he) h)
    · rw [if_neg z] at h
      obtain ⟨hm1, hm2⟩ := hm.2 z
      have he1 : 2 ^ l ≤ e := by omega
      have ei : nI (mg_first l) + ((nI e - nI (2 ^ l)) >>> (nI l &&& 31)) = nI (mg_first l + (e - 2 ^ l) / 2 ^ l) := by
        rw [mg_shr e (by omega) l hl6 he1, nI_add]
      have hix := mg_ix e (by omega) l hl6 he1
      refine mg_first_wp l hl6 ⟨pk_in _ 80 hix ei, nm_r (by rw [pk_cl _ ei]) ?_⟩
      have e4 : nI e - nI (2 ^ l) = nI (e - 2 ^ l) := pk_sub he1
      cases sm with
      | false => exact br_t rfl (nm_r e4 (nm_r (nI_1 l) (ih (l + 1) _ _ true (by omega) (by omega) h)))
      | true => exact br_f (by decide) (mg_node_wp _ _ rfl rfl (nm_r e4 (nm_r (nI_1 l) (ih (l + 1) _ _ true (by omega) (by omega) h))))
theorem mg_rr_wp {post : Int32 → Prop} {lo hi : Nat} {E C F : Int32} {a1 a2 a3 : Nat → Int32} (hd : lo ≤ hi) (hh : hi ≤ 40) (h : post (mg_rr a1 lo hi)) : wpX_rangeRoot post (E, C, F, a1, a2, a3) (nI lo) (nI hi) := by
  unfold wpX_rangeRoot
  exact ⟨7, mg_rr_loop (d := hi - lo) (by omega) hh 6 0 0 hi false (by omega) (by omega) h⟩
theorem mg_note_wp {post : St1 → Prop} {lo hi f : Nat} {E C : Int32} {a1 a2 a3 : Nat → Int32} (hd : lo ≤ hi) (hh : hi ≤ 40) (hf : f < 16) (h : post (E, C, nI (f + 1), a1, a2, upd a3 f (mg_rr a1 lo hi))) : wpX_note post (E, C, nI f, a1, a2, a3) (nI lo) (nI hi) := by
  unfold wpX_note
  exact mg_rr_wp hd hh ⟨pk_in f 16 hf, nm_r (by rw [nI_clamp (by omega)]) (nm_r (nI_1 f) h)⟩
theorem mg_turn_wp {post : St1 → Prop} {n : Nat} {E C : Int32} {a1 a2 a3 : Nat → Int32} (hn : n ≤ 16) (h : ∀ a2', (∀ k, k < n → a2' k = a3 (n - 1 - k)) → post (E, nI n, nI n, a1, a2', a3)) : wpX_turnRound post (E, C, nI n, a1, a2, a3) := by
  unfold wpX_turnRound
  refine pk_loop (fun q i s => wX_turnRound_10 post E (nI n) (nI n) q (nI i) a1 s a3) (fun i s => ∀ k, k < i → s k = a3 (n - 1 - k)) n 0 a2 (by omega) (fun j hj => absurd hj (by omega))
    (fun q s hs => pk_le n n (fun _ => h s hs) (fun z => absurd z (by omega))) (fun q i s hi hs hw => ?_)
  have e1 : nI n - 1 - nI i = nI (n - 1 - i) := by
    have e0 : nI n - 1 = nI (n - 1) := pk_sub (b := 1) (by omega)
    rw [e0, pk_sub (by omega)]
  refine pk_le n i (fun z => absurd z (by omega)) (fun _ => ⟨pk_in (n - 1 - i) 16 (by omega) e1, pk_in i 16 (by omega), nm_r (by rw [nI_clamp (show i < 2 ^ 31 by omega), pk_cl (n - 1 - i) e1]) (nm_r (nI_1 i) (hw _ ?_))⟩)
  intro j hj
  by_cases ej : j = i
  · rw [ej, pk_us]
  · rw [pk_un ej]
    exact hs j (by omega)
theorem mg_path_loop {post : Int32 → St1 → Prop} {e n : Nat} {E C : Int32} {a1 a2 : Nat → Int32} (he : e < 41) (hn : n ≤ 16) {D : Nat → Int32}
    (h : ∀ a2' a3', (∀ k, k < n → a2' k = D (n - 1 - k)) → post (nI n) (E, nI n, nI n, a1, a2', a3')) :
    ∀ m lo hi f a3 d, f + m = 6 → lo < hi → hi ≤ 40 → n = f + mg_lenF e m lo hi → D = mg_pathF a1 e m lo hi f d → (∀ j, j < f → a3 j = d j) →
      wX_path_37 post (nI e) (m + 1) (nI lo) (nI hi) (nI f) E C (nI f) a1 a2 a3 := by
  have fin : ∀ (f : Nat) (a3 : Nat → Int32), n = f → (∀ j, j < f → a3 j = D j) → wX_path_100 post E C (nI f) a1 a2 a3 := by
    intro f a3 hf ha
    subst hf
    unfold wX_path_100
    exact mg_turn_wp hn (fun a2' h2 => h a2' a3 (fun k hk => (h2 k hk).trans (ha _ (by omega))))
  intro m
  induction m with
  | zero =>
    intro lo hi f a3 d hf hlo hhi hn' hD ha
    subst hD
    exact pk_le 6 f (fun _ => fin f a3 hn' ha) (fun z => absurd z (by omega))
  | succ m ih =>
    intro lo hi f a3 d hf hlo hhi hn' hD ha
    unfold mg_lenF at hn'
    unfold mg_pathF at hD
    have es : nI hi - nI lo = nI (hi - lo) := pk_sub (by omega)
    refine pk_le 6 f (fun z => absurd z (by omega)) (fun _ => pk_le (hi - lo) 1 (fun z => ?_) (fun z => ?_) es)
    · rw [if_pos z] at hn' hD
      subst hD
      exact fin f a3 hn' ha
    · have hc := mg_cut_in (hi - lo) (by omega) (by omega)
      rw [if_neg (by omega)] at hn' hD
      refine mg_cut_wp (hi - lo) es (by omega) (nm_r (nI_add lo _) (pk_le (lo + mg_cut (hi - lo)) e (fun g => ?_) (fun g => ?_)))
      · rw [if_pos g] at hn' hD
        exact mg_note_wp (by omega) (by omega) (by omega) (nm_r (nI_1 f) (ih _ _ (f + 1) _ _ (by omega) (by omega) hhi (by omega) hD (mg_upd _ ha)))
      · rw [if_neg (by omega)] at hn' hD
        exact mg_note_wp (by omega) (by omega) (by omega) (nm_r (nI_1 f) (ih _ _ (f + 1) _ _ (by omega) (by omega) (by omega) (by omega) hD (mg_upd _ ha)))
theorem mg_path_wp {post : Int32 → St1 → Prop} {E : Nat} {C F : Int32} {a1 a2 a3 : Nat → Int32} {p0 p1 : Int32} (hE : E ≤ 40) (hneg : post (-1) (nI E, C, F, a1, a2, a3))
    (hpos : ∀ e s, p0 = nI e → p1 = nI s → 1 ≤ s → s ≤ E → e < s → ∀ a2' a3', (∀ k, k < mg_len e s → a2' k = mg_D a1 e s (mg_len e s - 1 - k)) → post (nI (mg_len e s)) (nI E, nI (mg_len e s), nI (mg_len e s), a1, a2', a3')) :
    wpX_path post (nI E, C, F, a1, a2, a3) p0 p1 := by
  unfold wpX_path
  refine br_c (fun _ => hneg) (fun z1 => br_c (fun _ => hneg) (fun z2 => br_c (fun _ => hneg) (fun z3 => br_c (fun z4 => ?_) (fun _ => hneg))))
  obtain ⟨s, hs, rfl⟩ := nI_of (x := p1) (fun q => z1 (Int32.lt_trans q (by decide)))
  obtain ⟨e, he, rfl⟩ := nI_of z3
  have h4 : e < s := (nI_ltI he hs).mp z4
  have h1 : 1 ≤ s := by
    rcases Nat.lt_or_ge s 1 with q | q
    · exact absurd (nI_lt (b := 1) q (by decide)) z1
    · exact q
  have h2 : s ≤ E := by
    rcases Nat.lt_or_ge E s with q | q
    · exact absurd (nI_lt q hs) z2
    · exact q
  exact ⟨7, mg_path_loop (by omega) (Nat.le_trans (mg_len_le e s) (by decide)) (hpos e s rfl rfl h1 h2 h4) 6 0 s 0 a3 (fun _ => 0) (by omega) (by omega) (by omega) (Nat.zero_add _).symm rfl (fun j hj => absurd hj (by omega))⟩
theorem mg_path_in {post : Int32 → St1 → Prop} {E e s : Nat} {C F : Int32} {a1 a2 a3 : Nat → Int32} (hE : E ≤ 40) (h1 : 1 ≤ s) (h2 : s ≤ E) (h4 : e < s)
    (h : ∀ a2' a3', (∀ k, k < mg_len e s → a2' k = mg_D a1 e s (mg_len e s - 1 - k)) → post (nI (mg_len e s)) (nI E, nI (mg_len e s), nI (mg_len e s), a1, a2', a3')) :
    wpX_path post (nI E, C, F, a1, a2, a3) (nI e) (nI s) := by
  unfold wpX_path
  refine br_f (nI_nlt (b := 1) h1 (by omega)) (br_f (nI_nlt h2 (by omega)) (br_f (nI_pos (by omega)) (br_t (nI_lt h4 (by omega)) ?_)))
  exact ⟨7, mg_path_loop (by omega) (Nat.le_trans (mg_len_le e s) (by decide)) h 6 0 s 0 a3 (fun _ => 0) (by omega) (by omega) (by omega) (Nat.zero_add _).symm rfl (fun j hj => absurd hj (by omega))⟩
/-- steps from 1 walks as path of entry 0 does -/
theorem mg_steps_loop {post : Int32 → St1 → Prop} {n : Nat} {E C : Int32} {a1 a2 : Nat → Int32} (hn : n ≤ 16) {D : Nat → Int32}
    (h : ∀ a2' a3', (∀ k, k < n → a2' k = D (n - 1 - k)) → post (nI n) (E, nI n, nI n, a1, a2', a3')) :
    ∀ m hi f a3 d, f + m = 6 → 0 < hi → hi ≤ 40 → n = f + mg_lenF 0 m 0 hi → D = mg_pathF a1 0 m 0 hi f d → (∀ j, j < f → a3 j = d j) →
      wX_steps_33 post 1 (m + 1) (nI 0) (nI hi) (nI f) E C (nI f) a1 a2 a3 := by
  have fin : ∀ (f hi : Nat) (a3 : Nat → Int32), n = f → (∀ j, j < f → a3 j = D j) → wX_steps_94 post (nI 0) (nI hi) E C (nI f) a1 a2 a3 := by
    intro f hi a3 hf ha
    subst hf
    unfold wX_steps_94
    refine pk_le 0 0 (fun _ => ?_) (fun z => absurd z (by omega))
    unfold wX_steps_105
    exact mg_turn_wp hn (fun a2' h2 => h a2' a3 (fun k hk => (h2 k hk).trans (ha _ (by omega))))
  intro m
  induction m with
  | zero =>
    intro hi f a3 d hf hlo hhi hn' hD ha
    subst hD
    exact pk_le 6 f (fun _ => fin f hi a3 hn' ha) (fun z => absurd z (by omega))
  | succ m ih =>
    intro hi f a3 d hf hlo hhi hn' hD ha
    unfold mg_lenF at hn'
    unfold mg_pathF at hD
    have es : nI hi - nI 0 = nI (hi - 0) := pk_sub (by omega)
    refine pk_le 6 f (fun z => absurd z (by omega)) (fun _ => pk_eq hi 1 (fun z => ?_) (fun z => ?_))
    · rw [if_pos (by omega)] at hn' hD
      subst hD
      exact fin f hi a3 hn' ha
    · have hc := mg_cut_in (hi - 0) (by omega) (by omega)
      rw [if_neg (by omega), if_neg (by omega)] at hn' hD
      have ec : 0 + mg_cut (hi - 0) = mg_cut (hi - 0) := Nat.zero_add _
      refine mg_cut_wp (hi - 0) es (by omega) (nm_r (nI_add 0 _) (pk_lt (0 + mg_cut (hi - 0)) 1 (fun g => absurd g (by omega)) (fun g => ?_)))
      exact mg_note_wp (by omega) (by omega) (by omega) (nm_r (nI_1 f) (ih _ (f + 1) _ _ (by omega) (by omega) (by omega) (by omega) hD (mg_upd _ ha)))
theorem mg_steps_wp {post : Int32 → St1 → Prop} {E s : Nat} {C F : Int32} {a1 a2 a3 : Nat → Int32} (hE : E ≤ 40) (h1 : 1 ≤ s) (h2 : s ≤ E)
    (h : ∀ a2' a3', (∀ k, k < mg_len 0 s → a2' k = mg_D a1 0 s (mg_len 0 s - 1 - k)) → post (nI (mg_len 0 s)) (nI E, nI (mg_len 0 s), nI (mg_len 0 s), a1, a2', a3')) :
    wpX_steps post (nI E, C, F, a1, a2, a3) 1 (nI s) := by
  unfold wpX_steps
  refine br_f (by decide) (br_f (nI_nlt (b := 1) h1 (by omega)) (br_t (nI_le h2 (by omega)) ?_))
  exact ⟨7, mg_steps_loop (Nat.le_trans (mg_len_le 0 s) (by decide)) h 6 s 0 a3 (fun _ => 0) (by omega) (by omega) (by omega) (Nat.zero_add _).symm rfl (fun j hj => absurd hj (by omega))⟩
end
section
/-! rootFrom, hand, take, alter, append -/
theorem mg_86 {post : Int32 → Prop} {J : Int32 → Int32 → Int32 → Int32 → Prop} {x6 x7 E C F : Int32} {a1 a2 a3 : Nat → Int32} :
    ∀ m t la j, j + m = 6 → t ≤ 40 → la ≤ 40 → wX_rootFrom_135 post J (nI (mg_sk m t la).1) (nI (mg_sk m t la).2) x6 x7 E C F a1 a2 a3 →
      wX_rootFrom_86 post J x6 x7 E C F a1 a2 a3 (m + 1) (nI t) (nI la) (nI j) := by
  intro m
  induction m with
  | zero => intro t la j hj ht hl h; exact pk_le 6 j (fun _ => h) (fun z => absurd z (by omega))
  | succ m ih =>
    intro t la j hj ht hl h
    unfold mg_sk at h
    refine pk_le 6 j (fun z => absurd z (by omega)) (fun _ => pk_eq (t % 2) 0 (fun z => ?_) (fun z => ?_) (mg_and1 (by omega)))
    · rw [if_pos z] at h
      exact nm_r (mg_half (by omega)) (nm_r (mg_half (by omega)) (nm_r (nI_1 j) (ih (t / 2) (la / 2) (j + 1) (by omega) (by omega) (by omega) h)))
    · rw [if_neg z] at h
      exact h
theorem mg_69 {post : Int32 → Prop} {J : Int32 → Int32 → Int32 → Int32 → Prop} {r E C F : Int32} {a1 a2 a3 : Nat → Int32} {t la k : Nat} (ht : t ≤ 40) (hl : la ≤ 40) (hk : k < 16)
    (h : wX_rootFrom_135 post J (nI (mg_sk 6 t la).1) (nI (mg_sk 6 t la).2) (mg_node (a2 k) r) (nI k) E C F a1 a2 a3) : wX_rootFrom_69 post J (nI t) (nI la) r (nI k) E C F a1 a2 a3 := by
  unfold wX_rootFrom_69
  exact ⟨pk_in k 16 hk, mg_node_wp (a2 k) r (congrArg a2 (nI_clamp (by omega))) rfl ⟨7, mg_86 6 t la 0 (by omega) ht hl h⟩⟩
theorem mg_rf_loop {post : Int32 → Prop} {E F : Int32} {a1 a2 a3 : Nat → Int32} {c : Nat} (hc : c ≤ 16) :
    ∀ m k t la r, k + m = c → t ≤ 40 → la ≤ 40 → post (mg_rf a2 m k t la r) → wX_rootFrom_39 post E (nI c) F a1 a2 a3 (m + 1) (nI t) (nI la) r (nI k) := by
  intro m
  induction m with
  | zero =>
    intro k t la r hk ht hl h
    unfold mg_rf at h
    refine pk_le c k (fun _ => pk_eq la 0 (fun z => ?_) (fun z => ?_)) (fun z => absurd z (by omega))
    · rw [if_pos z] at h
      exact h
    · rw [if_neg z] at h
      exact h
  | succ m ih =>
    intro k t la r hk ht hl h
    unfold mg_rf at h
    have hs := mg_sk_le 6 t la
    have d1 : nI ((mg_sk 6 t la).1) >>> ((1 : Int32) &&& 31) = nI ((mg_sk 6 t la).1 / 2) := mg_half (by omega)
    have d2 : nI ((mg_sk 6 t la).2) >>> ((1 : Int32) &&& 31) = nI ((mg_sk 6 t la).2 / 2) := mg_half (by omega)
    refine pk_le c k (fun z => absurd z (by omega)) (fun _ => pk_eq la 0 (fun z => ?_) (fun z => ?_))
    · rw [if_pos z] at h
      exact h
    · rw [if_neg z] at h
      refine pk_eq (t % 2) 0 (fun g => pk_eq t la (fun g2 => ?_) (fun g2 => ?_)) (fun g => ?_) (mg_and1 (by omega))
      · rw [if_neg (fun q => q.2 g2)] at h
        exact mg_69 ht hl (by omega) (nm_r d1 (nm_r d2 (nm_r (nI_1 k) (ih (k + 1) _ _ _ (by omega) (by omega) (by omega) h))))
      · rw [if_pos ⟨g, g2⟩] at h
        exact ⟨pk_in k 16 (by omega), mg_node_wp r (a2 k) rfl (congrArg a2 (nI_clamp (by omega))) (nm_r (mg_half (by omega)) (nm_r (mg_half (by omega)) (nm_r (nI_1 k) (ih (k + 1) _ _ _ (by omega) (by omega) (by omega) h))))⟩
      · rw [if_neg (fun q => g q.1)] at h
        exact mg_69 ht hl (by omega) (nm_r d1 (nm_r d2 (nm_r (nI_1 k) (ih (k + 1) _ _ _ (by omega) (by omega) (by omega) h))))
theorem mg_rf_wp {post : Int32 → Prop} {E F : Int32} {a1 a2 a3 : Nat → Int32} {c e s : Nat} {v : Int32} (hc : c ≤ 16) (h1 : 1 ≤ s) (h2 : s ≤ 40) (h4 : e < s)
    (h : post (mg_rf a2 c 0 e (s - 1) (mg_leaf v))) : wpX_rootFrom post (E, nI c, F, a1, a2, a3) (nI e) (nI s) v := by
  unfold wpX_rootFrom
  have e1 : nI s - 1 = nI (s - 1) := pk_sub (b := 1) h1
  refine br_f (nI_nlt (b := 1) h1 (by omega)) (br_f (nI_nlt (a := 40) h2 (by omega)) (br_f (nI_pos (by omega)) (br_t (nI_lt h4 (by omega)) (nm_r e1 ?_))))
  exact mg_leaf_wp ⟨c + 1, mg_rf_loop hc c 0 e (s - 1) _ (by omega) (by omega) (by omega) h⟩
theorem mg_hand_wp {post : Int32 → Prop} {E F : Int32} {a1 a2 a3 : Nat → Int32} {c : Nat} {x : Int32} (hc : c ≤ 16) (h : post (mg_hv a2 c x)) : wpX_hand post (E, nI c, F, a1, a2, a3) x := by
  unfold wpX_hand
  unfold mg_hv at h
  refine br_c (fun z => ?_) (fun z => br_c (fun g => ?_) (fun g => ?_))
  · rw [if_pos z] at h
    exact h
  · rw [if_neg z, if_pos g] at h
    obtain ⟨j, hj, rfl⟩ := nI_of z
    have hjc := (nI_ltI hj (by omega)).mp g
    exact ⟨pk_in j 16 (by omega), h⟩
  · rw [if_neg z, if_neg g] at h
    exact h
theorem mg_take_wp {post : Int32 → St1 → Prop} {E F : Int32} {c : Nat} {a1 a2 a3 : Nat → Int32} {v : Int32} (hc : c < 16) (h : post (nI (c + 1)) (E, nI (c + 1), F, a1, upd a2 c v, a3)) : wpX_take post (E, nI c, F, a1, a2, a3) v :=
  pk_lt c 16 (fun z => ⟨pk_in c 16 z, nm_r (by rw [nI_clamp (by omega)]) (nm_r (nI_1 c) h)⟩) (fun z => absurd z (by omega))
theorem mg_take_any {post : Int32 → St1 → Prop} {E F : Int32} {c : Nat} {a1 a2 a3 : Nat → Int32} {v : Int32} (hc : c ≤ 16) (h : ∀ r c' a2', c' ≤ 16 → post r (E, nI c', F, a1, a2', a3)) : wpX_take post (E, nI c, F, a1, a2, a3) v :=
  pk_lt c 16 (fun z => ⟨pk_in c 16 z, nm_e (nm_r (nI_1 c) (h _ (c + 1) _ (by omega)))⟩) (fun z => h _ c _ hc)
theorem mg_alter_any {post : Int32 → St1 → Prop} {E F : Int32} {c : Nat} {a1 a2 a3 : Nat → Int32} {x v : Int32} (hc : c ≤ 16) (h : ∀ r a2', post r (E, nI c, F, a1, a2', a3)) : wpX_alter post (E, nI c, F, a1, a2, a3) x v := by
  unfold wpX_alter
  refine br_c (fun z => h _ _) (fun z => br_c (fun g => ?_) (fun g => h _ _))
  obtain ⟨j, hj, rfl⟩ := nI_of z
  have hjc := (nI_ltI hj (by omega)).mp g
  exact ⟨pk_in j 16 (by omega), nm_e (h _ _)⟩
/-- append's places: at a level l the halved index i stands for i * 2^(l+1) entries -/
theorem mg_ap_ix : ∀ i, i < 21 → ∀ l, l < 5 → 1 ≤ i → i * 2 ^ (l + 1) ≤ 40 → mg_first l + 2 * i < 81 ∧ mg_first (l + 1) + i < 81 := by decide +kernel
theorem mg_ap_st : ∀ i, i < 41 → ∀ l, l < 5 → i * 2 ^ l ≤ 40 → i % 2 = 0 → i / 2 * 2 ^ (l + 1) ≤ 40 := by decide +kernel
theorem mg_ap_loop {post : Int32 → St1 → Prop} {E : Nat} {C F : Int32} {a2 a3 : Nat → Int32} (h : ∀ a1', post (nI E) (nI E, C, F, a1', a2, a3)) :
    ∀ m l i a1, l + m = 5 → 1 ≤ i → i ≤ 40 → i * 2 ^ l ≤ 40 → wX_append_41 post (nI E) C F (m + 1) (nI i) (nI l) a1 a2 a3 := by
  intro m
  induction m with
  | zero => intro l i a1 hl h1 h2 h3; exact pk_le 5 l (fun _ => h a1) (fun z => absurd z (by omega))
  | succ m ih =>
    intro l i a1 hl h1 h2 h3
    refine pk_le 5 l (fun z => absurd z (by omega)) (fun _ => pk_eq (i % 2) 0 (fun z => ⟨by decide, nm_r (pk_div (a := i) (d := 2) (by omega) (by omega) (by omega)) ?_⟩) (fun z => h a1) (mg_and1 (by omega)))
    have hs := mg_ap_st i (by omega) l (by omega) h3 z
    have hx := mg_ap_ix (i / 2) (by omega) l (by omega) (by omega) hs
    have e2 : 2 * nI (i / 2) = nI (2 * (i / 2)) := pk_mul 2 (i / 2)
    have q1 : nI (mg_first l) + 2 * nI (i / 2) - 2 = nI (mg_first l + 2 * (i / 2) - 2) := by
      rw [e2, nI_add]
      exact pk_sub (b := 2) (by omega)
    have q2 : nI (mg_first l) + 2 * nI (i / 2) - 1 = nI (mg_first l + 2 * (i / 2) - 1) := by
      rw [e2, nI_add]
      exact pk_sub (b := 1) (by omega)
    have q3 : nI (mg_first (l + 1)) + nI (i / 2) - 1 = nI (mg_first (l + 1) + i / 2 - 1) := by
      rw [nI_add]
      exact pk_sub (b := 1) (by omega)
    refine mg_first_wp l (by omega) ⟨pk_in _ 80 (by omega) q1, nm_e (mg_first_wp l (by omega) ⟨pk_in _ 80 (by omega) q2, nm_e ?_⟩)⟩
    rw [nI_1 l]
    exact mg_first_wp (l + 1) (by omega) (mg_node_wp _ _ rfl rfl ⟨pk_in _ 80 (by omega) q3, nm_e (nm_e (ih (l + 1) (i / 2) _ (by omega) (by omega) (by omega) hs))⟩)
theorem mg_append_wp {post : Int32 → St1 → Prop} {E : Nat} {C F : Int32} {a1 a2 a3 : Nat → Int32} {v : Int32} (hE : E ≤ 40) (h : E < 40 → ∀ a1', post (nI (E + 1)) (nI (E + 1), C, F, a1', a2, a3)) (h2 : post (-1) (nI E, C, F, a1, a2, a3)) : wpX_append post (nI E, C, F, a1, a2, a3) v := by
  unfold wpX_append
  refine pk_lt E 40 (fun z => mg_leaf_wp ⟨pk_in E 80 (by omega), nm_e (nm_r (nI_1 E) ?_)⟩) (fun z => h2)
  exact ⟨6, mg_ap_loop (h z) 5 0 (E + 1) _ (by omega) (by omega) (by omega) (by omega)⟩
end
section
/-! carried answers 1, whatever it is asked; entries and parts stay as they are -/
theorem mg_153 {post : Int32 → St1 → Prop} {J : Int32 → Int32 → Int32 → Int32 → (Nat → Int32) → (Nat → Int32) → (Nat → Int32) → Prop} {x1 x2 x3 x4 x5 x6 x7 x8 x9 x10 x11 z0 E F : Int32} {i : Nat} {a1 t a3 : Nat → Int32}
    (hi : i < 16) (h : J (nI (i + 1)) E (nI (i + 1)) F a1 (upd t i z0) a3) : wL_carried_153 post J x1 x2 x3 x4 x5 x6 x7 x8 x9 x10 x11 (nI i) z0 E (nI i) F a1 t a3 := by
  unfold wL_carried_153
  exact mg_take_wp hi (br_t (nI_1 i).symm (nm_r (nI_1 i) h))
theorem mg_90 {post : Int32 → St1 → Prop} {E n e s : Nat} {F R p3 : Int32} {a1 H a2 a3 : Nat → Int32} (hE : E ≤ 40) (h1 : 1 ≤ s) (h2 : s ≤ E) (h4 : e < s) (hn : n = mg_len e s)
    (hH : ∀ k, k < n → H k = mg_D a1 e s (n - 1 - k)) (hR : R = mg_rf H n 0 e (s - 1) (mg_leaf p3)) (h : ∀ F' a2' a3', post 1 (nI E, nI n, F', a1, a2', a3')) :
    ∃ q, wL_carried_90 post (nI e) (nI s) p3 (nI n) R (mg_hv H n 0) (mg_hv H n 1) (mg_hv H n 2) (mg_hv H n 3) (mg_hv H n 4) (mg_hv H n 5) q 0 (nI E) 0 F a1 a2 a3 := by
  have hn6 : n ≤ 6 := by rw [hn]; exact mg_len_le e s
  have hn16 : n ≤ 16 := by omega
  refine pk_loop (fun q i t => wL_carried_90 post (nI e) (nI s) p3 (nI n) R (mg_hv H n 0) (mg_hv H n 1) (mg_hv H n 2) (mg_hv H n 3) (mg_hv H n 4) (mg_hv H n 5) q (nI i) (nI E) (nI i) F a1 t a3) (fun i t => ∀ j, j < i → t j = H j) n 0 a2 (by omega) (fun j hj => absurd hj (by omega)) (fun q t ht => ?_) (fun q i t hi ht hw => ?_)
  · refine pk_le n n (fun _ => mg_rf_wp hn16 h1 (by omega) h4 (br_t ?_ (mg_take_wp (by omega) (br_t (nI_1 n).symm (mg_rf_wp (by omega) h1 (by omega) h4 (br_t ?_ ?_)))))) (fun z => absurd z (by omega))
    · rw [hR]
      exact mg_rf_congr n 0 e (s - 1) _ (fun j hj => ht j (by omega))
    · exact mg_rf_over n 0 e (s - 1) _ (by rw [hn]; exact mg_heart s (by omega) e h4)
    · subst hn
      refine mg_path_in hE h1 h2 h4 (fun a2' a3' ha => ?_)
      have hh : ∀ k, k < mg_len e s → a2' k = H k := fun k hk => (ha k hk).trans (hH k hk).symm
      refine br_t rfl (mg_hand_wp hn16 (br_t (mg_hv_congr hn16 hh 0) (mg_hand_wp hn16 (br_t (mg_hv_congr hn16 hh 5) (mg_rf_wp hn16 h1 (by omega) h4 (br_t ?_ (h _ _ _)))))))
      rw [hR]
      exact mg_rf_congr _ 0 e (s - 1) _ (fun j hj => hh j (by omega))
  · have key : ∀ z0, z0 = H i → wL_carried_153 post (wL_carried_90 post (nI e) (nI s) p3 (nI n) R (mg_hv H n 0) (mg_hv H n 1) (mg_hv H n 2) (mg_hv H n 3) (mg_hv H n 4) (mg_hv H n 5) q) (nI e) (nI s) p3 (nI n) R (mg_hv H n 0) (mg_hv H n 1) (mg_hv H n 2) (mg_hv H n 3) (mg_hv H n 4) (mg_hv H n 5) (nI i) z0 (nI E) (nI i) F a1 t a3 := by
      intro z0 hz
      refine mg_153 (by omega) (hw _ (fun j hj => ?_))
      by_cases ej : j = i
      · rw [ej, pk_us, hz]
      · rw [pk_un ej]
        exact ht j (by omega)
    have at_ : ∀ j, i = j → mg_hv H n (nI j) = H i := fun j hj => by
      rw [← hj]
      exact mg_hv_at hn16 hi
    exact pk_le n i (fun z => absurd z (by omega)) (fun _ =>
      pk_eq i 0 (fun z => key _ (at_ 0 z)) (fun z0 =>
      pk_eq i 1 (fun z => key _ (at_ 1 z)) (fun z1 =>
      pk_eq i 2 (fun z => key _ (at_ 2 z)) (fun z2 =>
      pk_eq i 3 (fun z => key _ (at_ 3 z)) (fun z3 =>
      pk_eq i 4 (fun z => key _ (at_ 4 z)) (fun z4 => key _ (at_ 5 (by omega))))))))
theorem mg_drop_wp {post : St1 → Prop} {E C F : Int32} {a1 a2 a3 : Nat → Int32} (h : post (E, 0, F, a1, a2, a3)) : wpX_drop post (E, C, F, a1, a2, a3) := h
theorem mg_held_wp {post : Int32 → Prop} {E C F : Int32} {a1 a2 a3 : Nat → Int32} (h : post C) : wpX_held post (E, C, F, a1, a2, a3) := h
theorem mg_carried_wp {post : Int32 → St1 → Prop} {E c : Nat} {F p1 p2 p3 : Int32} {a1 a2 a3 : Nat → Int32} (hE : E ≤ 40) (hc : c ≤ 16)
    (h : ∀ c' F' a2' a3', c' ≤ 16 → post 1 (nI E, nI c', F', a1, a2', a3')) : wpL_carried post (nI E, nI c, F, a1, a2, a3) p1 p2 p3 := by
  unfold wpL_carried
  refine mg_path_wp hE (br_f (by decide) (h _ _ _ _ hc)) (fun e s e0 e1 h1 h2 h4 H a3' hH => ?_)
  subst e0
  subst e1
  have hn6 := mg_len_le e s
  have hn16 : mg_len e s ≤ 16 := by omega
  have M : ∃ q, wL_carried_90 post (nI e) (nI s) p3 (nI (mg_len e s)) (mg_rf H (mg_len e s) 0 e (s - 1) (mg_leaf p3)) (mg_hv H (mg_len e s) 0) (mg_hv H (mg_len e s) 1) (mg_hv H (mg_len e s) 2) (mg_hv H (mg_len e s) 3) (mg_hv H (mg_len e s) 4) (mg_hv H (mg_len e s) 5) q 0 (nI E) 0 (nI (mg_len e s)) a1 H a3' :=
    mg_90 hE h1 h2 h4 rfl hH rfl (fun F' b2 b3 => h _ _ _ _ hn16)
  refine br_t (nI_pos' (by omega)) (mg_rf_wp hn16 h1 (by omega) h4 (mg_hand_wp hn16 (mg_hand_wp hn16 (mg_hand_wp hn16 (mg_hand_wp hn16 (mg_hand_wp hn16 (mg_hand_wp hn16 (mg_drop_wp ?_))))))))
  exact pk_le (mg_len e s) 0 (fun _ => M) (fun z => mg_rf_wp (c := 0) (by omega) h1 (by omega) h4 (br_t (mg_rf_short (mg_len_pos s (by omega) e h4 z)) M))
end
section
/-! the law's loop -/
theorem mg_115 {L : Nat} {xs : Nat → Int32} {J : Int32 → Int32 → Int32 → Int32 → Int32 → (Nat → Int32) → (Nat → Int32) → (Nat → Int32) → Prop} {x4 x5 x6 F : Int32} {kc ks i E c : Nat} {a1 a2 a3 : Nat → Int32} (hE : E ≤ 40) (hc : c ≤ 16)
    (HJ : ∀ c' F' a2' a3', c' ≤ 16 → J (nI E) (nI (i + 3)) (nI E) (nI c') F' a1 a2' a3') : wL_law_115 (fun r => r = 1) L xs J (nI E) (nI i) x4 x5 x6 kc ks (nI E) (nI c) F a1 a2 a3 := by
  have e3 : nI i + 3 = nI (i + 3) := nI_add i 3
  unfold wL_law_115
  refine br_c (fun _ => nm_r e3 (HJ _ _ _ _ hc)) (fun _ => pk_le E 0 (fun _ => nm_r e3 (HJ _ _ _ _ hc)) (fun hE0 => ⟨nI_ne0 hE0 (by omega), ?_⟩))
  obtain ⟨j, hj, ej⟩ := pk_andE x6 (m := 63) 6 (by decide)
  have hj' : j < 64 := hj
  have hm : j % E < E := Nat.mod_lt _ hE0
  have es : 1 + ((x6 &&& 63) - (x6 &&& 63) / nI E * nI E) = nI (1 + j % E) := by
    rw [ej, pk_rem (by omega) hE0 (by omega)]
    exact nI_add 1 _
  refine nm_r es ⟨nI_ne0 (by omega) (by omega), ?_⟩
  have hn6 := mg_len_le 0 (1 + j % E)
  have hn16 : mg_len 0 (1 + j % E) ≤ 16 := by omega
  refine mg_carried_wp hE hc (fun c' F' a2' a3' hc' => br_f (by decide) ?_)
  refine mg_steps_wp hE (by omega) (by omega) (fun b2 b3 hb => ?_)
  exact mg_held_wp (mg_hand_wp hn16 (mg_path_in (e := 0) hE (by omega) (by omega) (by omega) (fun d2 d3 hd => br_t rfl (mg_hand_wp hn16 (br_t (mg_hv_congr hn16 (fun k hk => (hd k hk).trans (hb k hk).symm) _) (br_t rfl (nm_r e3 (HJ _ _ _ _ hn16))))))))
theorem mg_100 {L : Nat} {xs : Nat → Int32} {J : Int32 → Int32 → Int32 → Int32 → Int32 → (Nat → Int32) → (Nat → Int32) → (Nat → Int32) → Prop} {x4 x5 x6 F : Int32} {kc ks i E c : Nat} {a1 a2 a3 : Nat → Int32} (hE : E ≤ 40) (hc : c ≤ 16)
    (HJ : ∀ c' F' a2' a3', c' ≤ 16 → J (nI E) (nI (i + 3)) (nI E) (nI c') F' a1 a2' a3') : wL_law_100 (fun r => r = 1) L xs J (nI E) (nI i) x4 x5 x6 kc ks (nI E) (nI c) F a1 a2 a3 := by
  unfold wL_law_100
  exact br_c (fun _ => mg_alter_any hc (fun r b2 => mg_115 hE hc HJ)) (fun _ => mg_115 hE hc HJ)
theorem mg_87 {L : Nat} {xs : Nat → Int32} {J : Int32 → Int32 → Int32 → Int32 → Int32 → (Nat → Int32) → (Nat → Int32) → (Nat → Int32) → Prop} {x4 x5 x6 F : Int32} {kc ks i E c : Nat} {a1 a2 a3 : Nat → Int32} (hE : E ≤ 40) (hc : c ≤ 16)
    (HJ : ∀ c' F' a2' a3', c' ≤ 16 → J (nI E) (nI (i + 3)) (nI E) (nI c') F' a1 a2' a3') : wL_law_87 (fun r => r = 1) L xs J (nI E) (nI i) x4 x5 x6 kc ks (nI E) (nI c) F a1 a2 a3 := by
  unfold wL_law_87
  exact br_c (fun _ => mg_take_any hc (fun r c' b2 hc' => mg_100 hE hc' HJ)) (fun _ => mg_100 hE hc HJ)
theorem mg_65 {L : Nat} {xs : Nat → Int32} {J : Int32 → Int32 → Int32 → Int32 → Int32 → (Nat → Int32) → (Nat → Int32) → (Nat → Int32) → Prop} {x4 x5 x6 F : Int32} {kc ks i E c : Nat} {a1 a2 a3 : Nat → Int32} (hE : E ≤ 40) (hc : c ≤ 16) (hi : i < L) (hL : L ≤ 260)
    (HJ : ∀ c' F' a2' a3', c' ≤ 16 → J (nI E) (nI (i + 3)) (nI E) (nI c') F' a1 a2' a3') : wL_law_65 (fun r => r = 1) L xs J (nI E) (nI i) x4 x5 x6 kc ks (nI E) (nI c) F a1 a2 a3 := by
  unfold wL_law_65
  exact br_c (fun _ => ⟨pk_in i L hi, mg_carried_wp hE hc (fun c' F' b2 b3 hc' => br_f (by decide) (mg_87 hE hc' HJ))⟩) (fun _ => mg_87 hE hc HJ)
theorem mg_law {xs : Nat → Int32} {L : Nat} (hL : L ≤ 260) {kc ks : Nat} : ∀ n i E c F a1 a2 a3, E ≤ 40 → c ≤ 16 → i ≤ L → L - i < n → wL_law_12 (fun r => r = 1) L xs kc ks n (nI E) (nI i) (nI E) (nI c) F a1 a2 a3 := by
  intro n
  induction n with
  | zero => intro i E c F a1 a2 a3 hE hc hi hn; exact absurd hn (by omega)
  | succ n ih =>
    intro i E c F a1 a2 a3 hE hc hi hn
    have e3 : nI i + 3 = nI (i + 3) := nI_add i 3
    refine pk_lt L (i + 3) (fun _ => rfl) (fun z => ⟨pk_in i L (by omega), nm_e ⟨pk_in (i + 1) L (by omega) (nI_add i 1), nm_e ⟨pk_in (i + 2) L (by omega) (nI_add i 2), nm_e ?_⟩⟩⟩) rfl e3
    have HJ : ∀ E' a1' c' F' a2' a3', E' ≤ 40 → c' ≤ 16 → wL_law_12 (fun r => r = 1) L xs kc ks n (nI E') (nI (i + 3)) (nI E') (nI c') F' a1' a2' a3' := fun E' a1' c' F' a2' a3' q1 q2 => ih (i + 3) E' c' F' a1' a2' a3' q1 q2 (by omega) (by omega)
    refine br_c (fun _ => mg_65 hE hc (by omega) hL (fun c' F' b2 b3 q => HJ _ _ _ _ _ _ hE q)) (fun _ => mg_append_wp hE (fun z2 b1 => br_f (nI_nle (by omega) (by omega)) ?_) (br_t (by decide) ?_))
    · unfold wL_law_64
      rw [nI_1]
      exact mg_65 (by omega) hc (by omega) hL (fun c' F' b2 b3 q => HJ _ _ _ _ _ _ (by omega) q)
    · unfold wL_law_64
      exact mg_65 hE hc (by omega) hL (fun c' F' b2 b3 q => HJ _ _ _ _ _ _ hE q)
theorem i_vc (xs : Nat → Int32) (L : Nat) (hL : L ≤ 260) : wpL_law (fun r => r = 1) L xs := by
  unfold wpL_law
  refine ⟨3, 112, by omega, by omega, ?_⟩
  unfold wpX_init
  dsimp only
  exact ⟨by omega, by omega, by omega, by omega, by omega, by omega, L + 1, mg_law hL (L + 1) 0 0 0 0 _ _ _ (by omega) (by omega) (by omega) (by omega)⟩
end
