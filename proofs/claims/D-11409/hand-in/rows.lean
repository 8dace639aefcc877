section
/-- the picture of meter 1: the time n, the time f up to which it is filled, the tokens t, the rate r, the burst b, the denials d; it is a bucket and its log is empty -/
def rl_K (n f t r b d : Nat) (u : St2) : Prop := match u with
  | (f0, a1, a2, a3, _, _, a6, a7, a8, _, _, a11, _, _, _) => f0 = nI n ∧ a1 1 = 0 ∧ a2 1 = nI r ∧ a3 1 = nI b ∧ a6 1 = nI d ∧ a7 1 = nI t ∧ a8 1 = nI f ∧ a11 1 = 0
theorem rl_I : vp_in 1 4 := pk_in 1 4 (by omega)
theorem rl_c : (1 : Int32).toNatClampNeg = 1 := by decide
theorem rl_start {post : St2 → Prop} {f0 : Int32} {a1 a2 a3 a4 a5 a6 a7 a8 a9 a10 a11 a12 a13 a14 : Nat → Int32} {m : Nat} {p1 p2 p3 p4 : Int32} (hm : m < 4)
    (H : post (f0, upd a1 m p1, upd a2 m p2, upd a3 m p3, upd a4 m p4, upd a5 m 0, upd a6 m 0, upd a7 m p3, upd a8 m f0, upd a9 m (-1000000), upd a10 m 0, upd a11 m 0, upd a12 m 0, a13, a14)) :
    wpX_start post (f0, a1, a2, a3, a4, a5, a6, a7, a8, a9, a10, a11, a12, a13, a14) (nI m) p1 p2 p3 p4 := by
  have I : vp_in (nI m) 4 := pk_in m 4 hm
  unfold wpX_start
  dsimp only
  rw [nI_clamp (show m < 2 ^ 31 by omega)]
  exact ⟨I, nm_e ⟨I, nm_e ⟨I, nm_e ⟨I, nm_e ⟨I, nm_e ⟨I, nm_e ⟨I, nm_e ⟨I, nm_e ⟨I, nm_e ⟨I, nm_e ⟨I, nm_e ⟨I, nm_e H⟩⟩⟩⟩⟩⟩⟩⟩⟩⟩⟩⟩
theorem rl_i108 {post : St2 → Prop} {mc ms kc ks : Nat} {f0 : Int32} (H : ∀ v : St2, v.1 = f0 → post v) : ∀ (k i : Nat), i + k = 4 → ∀ a1 a2 a3 a4 a5 a6 a7 a8 a9 a10 a11 a12 a13 a14 : Nat → Int32, wX_init_108 post mc ms kc ks (k + 1) (nI i) f0 a1 a2 a3 a4 a5 a6 a7 a8 a9 a10 a11 a12 a13 a14 := by
  intro k
  induction k with
  | zero =>
    intro i hi a1 a2 a3 a4 a5 a6 a7 a8 a9 a10 a11 a12 a13 a14
    exact pk_le 4 i (fun _ => H _ rfl) (fun z => absurd z (by omega))
  | succ k ih =>
    intro i hi a1 a2 a3 a4 a5 a6 a7 a8 a9 a10 a11 a12 a13 a14
    exact pk_le 4 i (fun z => absurd z (by omega)) (fun z => rl_start z (nm_r (nI_1 i) (ih (i + 1) (by omega) _ _ _ _ _ _ _ _ _ _ _ _ _ _)))
theorem rl_init {post : St2 → Prop} {f0 : Int32} (H : ∀ v : St2, v.1 = f0 → post v) : wpX_init post 14 304 f0 := by
  unfold wpX_init
  exact ⟨by decide, by decide, by decide, by decide, by decide, by decide, by decide, by decide, by decide, by decide, by decide, by decide, by decide, by decide, by decide, by decide, by decide, by decide, by decide, by decide, by decide, by decide, by decide, by decide, by decide, by decide, by decide, by decide, 5, rl_i108 H 4 0 rfl _ _ _ _ _ _ _ _ _ _ _ _ _ _⟩
theorem rl_bad {post : Int32 → Prop} (H : post 0) : wpX_bad post () 1 := br_f (by decide) (br_t (by decide) H)
theorem rl_badCost {post : Int32 → Prop} {c : Nat} (h1 : 1 ≤ c) (h2 : c ≤ 20) (H : post 0) : wpX_badCost post () (nI c) :=
  pk_lt c 1 (fun z => absurd z (by omega)) (fun _ => pk_le c 20 (fun _ => H) (fun z => absurd z (by omega)))
theorem rl_n7 {r b : Nat} (hr : r ≤ 5) (hb : b ≤ 20) : nI (r + 8 * b + 256) &&& 7 = nI r := by
  rw [pk_andN (by omega) 3 (by decide)]
  exact congrArg nI (by omega)
theorem rl_n31 {r b : Nat} (hr : r ≤ 5) (hb : b ≤ 20) : (nI (r + 8 * b + 256) >>> ((3 : Int32) &&& 31)) &&& 31 = nI b := by
  rw [pk_shrN (by omega) _ 3 (by decide), pk_andN (by omega) 5 (by decide)]
  exact congrArg nI (by omega)
theorem rl_n15 {r b : Nat} (hr : r ≤ 5) (hb : b ≤ 20) : (nI (r + 8 * b + 256) >>> ((8 : Int32) &&& 31)) &&& 15 = nI 1 := by
  rw [pk_shrN (by omega) _ 8 (by decide), pk_andN (by omega) 4 (by decide)]
  exact congrArg nI (by omega)
theorem rl_set {post : Int32 → St2 → Prop} {u : St2} {r b : Nat} (hu : u.1 = 0) (hr1 : 1 ≤ r) (hr : r ≤ 5) (hb1 : 1 ≤ b) (hb : b ≤ 20) (H : ∀ v, rl_K 0 0 b r b 0 v → post 0 v) : wpX_set post u 1 0 (nI (r + 8 * b + 256)) := by
  obtain ⟨f0, a1, a2, a3, a4, a5, a6, a7, a8, a9, a10, a11, a12, a13, a14⟩ := u
  unfold wpX_set
  refine rl_bad (br_t rfl (br_f (by decide) (br_t (by decide) (nm_r (rl_n7 hr hb) (nm_r (rl_n31 hr hb) (nm_r (rl_n15 hr hb) ?_))))))
  refine pk_lt r 1 (fun z => absurd z (by omega)) (fun _ => pk_lt 5 r (fun z => absurd z (by omega)) (fun _ => ?_))
  refine pk_lt b 1 (fun z => absurd z (by omega)) (fun _ => pk_lt 30 b (fun z => absurd z (by omega)) (fun _ => ?_))
  refine pk_lt 1 1 (fun z => absurd z (by omega)) (fun _ => pk_le 1 10 (fun _ => ?_) (fun z => absurd z (by omega)))
  exact rl_start (m := 1) (by omega) (H _ ⟨hu, pk_us, pk_us, pk_us, pk_us, pk_us, pk_us.trans hu, pk_us⟩)
theorem rl_c51 {post : St2 → Prop} {n f t t' r b d : Nat} {z : Int32} {f0 : Int32} {a1 a2 a3 a4 a5 a6 a7 a8 a9 a10 a11 a12 a13 a14 : Nat → Int32} (hk : rl_K n f t r b d (f0, a1, a2, a3, a4, a5, a6, a7, a8, a9, a10, a11, a12, a13, a14)) (hz : z = nI t')
    (H : ∀ v, rl_K n n t' r b d v → post v) : wX_catchUp_51 post 1 z 1 f0 a1 a2 a3 a4 a5 a6 a7 a8 a9 a10 a11 a12 a13 a14 := by
  obtain ⟨h0, h1, h2, h3, h6, h7, h8, h11⟩ := hk
  unfold wX_catchUp_51
  rw [rl_c]
  refine ⟨rl_I, nm_e ⟨rl_I, nm_e ⟨1, ?_⟩⟩⟩
  refine br_f (by decide) ⟨rl_I, br_t ?_ (H _ ⟨h0, h1, h2, h3, h6, pk_us.trans hz, pk_us.trans h0, h11⟩)⟩
  rw [rl_c, h11]
  decide
theorem rl_catch {post : St2 → Prop} {u : St2} {n f t r b d : Nat} (hk : rl_K n f t r b d u) (hf : f ≤ n) (hn : n ≤ 1000) (ht : t ≤ 20) (hr : r ≤ 5) (hb : b ≤ 20)
    (H : ∀ v, rl_K n n (min (t + r * (n - f)) b) r b d v → post v) : wpX_catchUp post u 1 := by
  obtain ⟨f0, a1, a2, a3, a4, a5, a6, a7, a8, a9, a10, a11, a12, a13, a14⟩ := u
  have hk' := hk
  obtain ⟨h0, h1, h2, h3, h6, h7, h8, h11⟩ := hk
  have hx : a7 1 + a2 1 * (f0 - a8 1) = nI (t + r * (n - f)) := by
    rw [h0, h7, h2, h8, pk_sub hf, pk_mul, nI_add]
  have hm : r * (n - f) ≤ 5 * 1000 := Nat.mul_le_mul hr (by omega)
  unfold wpX_catchUp
  dsimp only
  rw [rl_c]
  refine ⟨rl_I, rl_I, rl_I, nm_r hx ⟨rl_I, pk_le b (t + r * (n - f)) (fun z => ⟨rl_I, rl_c51 hk' h3 ?_⟩) (fun z => rl_c51 hk' rfl ?_) h3 rfl⟩⟩
  · rw [Nat.min_eq_right z] at H
    exact H
  · rw [Nat.min_eq_left (Nat.le_of_lt z)] at H
    exact H
theorem rl_roomOf {post : Int32 → St2 → Prop} {u : St2} {n f t r b d : Nat} (hk : rl_K n f t r b d u) (hf : f ≤ n) (hn : n ≤ 1000) (ht : t ≤ 20) (hr : r ≤ 5) (hb : b ≤ 20)
    (H : ∀ v, rl_K n n (min (t + r * (n - f)) b) r b d v → post (nI (min (t + r * (n - f)) b)) v) : wpX_roomOf post u 1 := by
  obtain ⟨f0, a1, a2, a3, a4, a5, a6, a7, a8, a9, a10, a11, a12, a13, a14⟩ := u
  unfold wpX_roomOf
  refine rl_catch hk hf hn ht hr hb (fun v hv => ?_)
  obtain ⟨g0, c1, c2, c3, c4, c5, c6, c7, c8, c9, c10, c11, c12, c13, c14⟩ := v
  have h := H _ hv
  obtain ⟨h0, h1, h2, h3, h6, h7, h8, h11⟩ := hv
  rw [← h7] at h
  dsimp only
  rw [rl_c]
  exact ⟨rl_I, br_t h1 ⟨rl_I, h⟩⟩
theorem rl_grant {post : St2 → Prop} {u : St2} {n f t r b d c : Nat} (hk : rl_K n f t r b d u) (hc : c ≤ t) (H : ∀ v, rl_K n f (t - c) r b d v → post v) : wpX_grant post u 1 (nI c) := by
  obtain ⟨f0, a1, a2, a3, a4, a5, a6, a7, a8, a9, a10, a11, a12, a13, a14⟩ := u
  obtain ⟨h0, h1, h2, h3, h6, h7, h8, h11⟩ := hk
  unfold wpX_grant
  dsimp only
  rw [rl_c]
  refine ⟨rl_I, rl_I, nm_e ⟨rl_I, br_t h1 ⟨rl_I, rl_I, nm_e (H _ ⟨h0, h1, h2, h3, h6, pk_us.trans ?_, h8, h11⟩)⟩⟩⟩
  rw [h7, pk_sub hc]
theorem rl_ask {post : Int32 → St2 → Prop} {u : St2} {n f t r b d c : Nat} (hk : rl_K n f t r b d u) (hf : f ≤ n) (hn : n ≤ 1000) (ht : t ≤ 20) (hr : r ≤ 5) (hb : b ≤ 20) (hc1 : 1 ≤ c) (hc : c ≤ 20)
    (H1 : c ≤ min (t + r * (n - f)) b → ∀ v, rl_K n n (min (t + r * (n - f)) b - c) r b d v → post 1 v)
    (H0 : min (t + r * (n - f)) b < c → ∀ v, rl_K n n (min (t + r * (n - f)) b) r b (d + 1) v → post 0 v) : wpX_ask post u 1 (nI c) := by
  obtain ⟨f0, a1, a2, a3, a4, a5, a6, a7, a8, a9, a10, a11, a12, a13, a14⟩ := u
  have hl : min (t + r * (n - f)) b ≤ 20 := Nat.le_trans (Nat.min_le_right _ _) hb
  unfold wpX_ask
  refine rl_bad (br_t rfl (rl_badCost hc1 hc (br_t rfl (rl_roomOf hk hf hn ht hr hb (fun v hv => ?_)))))
  generalize min (t + r * (n - f)) b = t' at H1 H0 hv hl
  obtain ⟨g0, c1, c2, c3, c4, c5, c6, c7, c8, c9, c10, c11, c12, c13, c14⟩ := v
  refine pk_le c t' (fun z => rl_grant hv z (fun w hw => ?_)) (fun z => ⟨rl_I, rl_I, nm_e ?_⟩)
  · obtain ⟨e0, e1, e2, e3, e4, e5, e6, e7, e8, e9, e10, e11, e12, e13, e14⟩ := w
    exact H1 z _ hw
  · obtain ⟨h0, h1, h2, h3, h6, h7, h8, h11⟩ := hv
    rw [rl_c]
    refine H0 z _ ⟨h0, h1, h2, h3, pk_us.trans ?_, h7, h8, h11⟩
    rw [h6, nI_1]
theorem rl_room {post : Int32 → St2 → Prop} {u : St2} {n f t r b d : Nat} (hk : rl_K n f t r b d u) (hf : f ≤ n) (hn : n ≤ 1000) (ht : t ≤ 20) (hr : r ≤ 5) (hb : b ≤ 20)
    (H : ∀ v, rl_K n n (min (t + r * (n - f)) b) r b d v → post (nI (min (t + r * (n - f)) b)) v) : wpX_room post u 1 := by
  obtain ⟨f0, a1, a2, a3, a4, a5, a6, a7, a8, a9, a10, a11, a12, a13, a14⟩ := u
  have hl : min (t + r * (n - f)) b ≤ 20 := Nat.le_trans (Nat.min_le_right _ _) hb
  unfold wpX_room
  refine rl_bad (br_t rfl (rl_roomOf hk hf hn ht hr hb (fun v hv => ?_)))
  generalize min (t + r * (n - f)) b = t' at H hv hl
  obtain ⟨g0, c1, c2, c3, c4, c5, c6, c7, c8, c9, c10, c11, c12, c13, c14⟩ := v
  exact pk_le 0 t' (fun _ => pk_le t' 20 (fun _ => H _ hv) (fun z => absurd z (by omega))) (fun z => absurd z (by omega))
theorem rl_wait {post : Int32 → St2 → Prop} {u : St2} {n f t r b d c : Nat} (hk : rl_K n f t r b d u) (hf : f ≤ n) (hn : n ≤ 1000) (ht : t ≤ 20) (hr1 : 1 ≤ r) (hr : r ≤ 5) (hb : b ≤ 20) (hc1 : 1 ≤ c) (hc : c ≤ b)
    (hlt : min (t + r * (n - f)) b < c)
    (H : ∀ v, rl_K n n (min (t + r * (n - f)) b) r b d v → post ((nI c - nI (min (t + r * (n - f)) b) + nI r - 1) / nI r) v) : wpX_waitFor post u 1 (nI c) := by
  obtain ⟨f0, a1, a2, a3, a4, a5, a6, a7, a8, a9, a10, a11, a12, a13, a14⟩ := u
  have h3' : a3 1 = nI b := hk.2.2.2.1
  unfold wpX_waitFor
  refine rl_bad (br_t rfl (rl_badCost hc1 (by omega) (br_t rfl ⟨rl_I, ?_⟩)))
  rw [rl_c]
  refine pk_le c b (fun _ => rl_roomOf hk hf hn ht hr hb (fun v hv => ?_)) (fun z => absurd z (by omega)) rfl h3'
  generalize min (t + r * (n - f)) b = t' at H hv hlt
  obtain ⟨g0, c1, c2, c3, c4, c5, c6, c7, c8, c9, c10, c11, c12, c13, c14⟩ := v
  have h := H _ hv
  obtain ⟨h0, h1, h2, h3, h6, h7, h8, h11⟩ := hv
  refine pk_lt t' c (fun _ => ⟨rl_I, ?_⟩) (fun z => absurd z (by omega))
  refine br_f (by rw [h1]; decide) ⟨rl_I, br_t h1 ⟨rl_I, br_f (by rw [h2]; exact nI_nle hr1 (by omega)) ⟨rl_I, ?_⟩⟩⟩
  unfold wX_waitFor_90
  rw [rl_c, h2, h7]
  exact ⟨rl_I, nI_ne0 hr1 (by omega), h⟩
theorem rl_pass {post : Int32 → St2 → Prop} {u : St2} {n f t r b d k : Nat} (hk : rl_K n f t r b d u) (hn : n ≤ 1000) (hk1 : k ≤ 1000) (H : ∀ v, rl_K (n + k) f t r b d v → post (nI (n + k)) v) : wpX_pass post u (nI k) := by
  obtain ⟨f0, a1, a2, a3, a4, a5, a6, a7, a8, a9, a10, a11, a12, a13, a14⟩ := u
  obtain ⟨h0, h1, h2, h3, h6, h7, h8, h11⟩ := hk
  have hs : f0 + nI k = nI (n + k) := by rw [h0, nI_add]
  unfold wpX_pass
  exact pk_lt k 0 (fun z => absurd z (by omega)) (fun _ => pk_le k 1000 (fun _ => pk_le (n + k) 100000 (fun _ => nm_r hs (H _ ⟨rfl, h1, h2, h3, h6, h7, h8, h11⟩)) (fun z => absurd z (by omega)) hs) (fun z => absurd z (by omega)))
theorem rl_denied {post : Int32 → Prop} {u : St2} {n f t r b d : Nat} (hk : rl_K n f t r b d u) (H : post (nI d)) : wpX_denied post u 1 := by
  obtain ⟨f0, a1, a2, a3, a4, a5, a6, a7, a8, a9, a10, a11, a12, a13, a14⟩ := u
  obtain ⟨h0, h1, h2, h3, h6, h7, h8, h11⟩ := hk
  unfold wpX_denied
  refine rl_bad (br_t rfl ⟨rl_I, ?_⟩)
  rw [rl_c, h6]
  exact H
end
section
theorem rl_175 {post : Int32 → St0 → Prop} {mc ms kc ks : Nat} {c x : Nat} {z0 z1 f0 : Int32} {a1 a2 a3 a4 a5 a6 a7 a8 a9 a10 a11 a12 a13 a14 : Nat → Int32} {n f t r b d : Nat} (hk : rl_K n f t r b d (f0, a1, a2, a3, a4, a5, a6, a7, a8, a9, a10, a11, a12, a13, a14)) (hc : c ≤ 20) (hx : x ≤ 20) (hz : z1 = z0)
    (h1 : x < c → d = 1) (h0 : c ≤ x → d = 0) (H : post 1 ()) : wL_lawOf_175 post mc ms (nI c) (nI x) z0 z1 kc ks f0 a1 a2 a3 a4 a5 a6 a7 a8 a9 a10 a11 a12 a13 a14 := by
  unfold wL_lawOf_175
  refine br_t hz (rl_denied hk ?_)
  exact pk_lt x c (fun z => br_t (by rw [h1 z]; rfl) H) (fun z => br_t (by rw [h0 z]; rfl) H)
theorem rl_142 {post : Int32 → St0 → Prop} {mc ms kc ks : Nat} {c x : Nat} {z0 f0 : Int32} {a1 a2 a3 a4 a5 a6 a7 a8 a9 a10 a11 a12 a13 a14 : Nat → Int32} {n r b : Nat} (hk : rl_K n 0 0 r b 0 (f0, a1, a2, a3, a4, a5, a6, a7, a8, a9, a10, a11, a12, a13, a14)) (hn : n ≤ 1000) (hr : r ≤ 5) (hb : b ≤ 20) (hc1 : 1 ≤ c) (hc : c ≤ 20)
    (hz : z0 = nI x) (hx : x = min (0 + r * (n - 0)) b) (H : post 1 ()) : wL_lawOf_142 post mc ms (nI c) z0 kc ks f0 a1 a2 a3 a4 a5 a6 a7 a8 a9 a10 a11 a12 a13 a14 := by
  have hxb : x ≤ b := by rw [hx]; exact Nat.min_le_right _ _
  subst hz
  unfold wL_lawOf_142
  refine rl_room hk (by omega) hn (by omega) hr hb (fun v hv => ?_)
  rw [← hx] at hv ⊢
  obtain ⟨g0, c1, c2, c3, c4, c5, c6, c7, c8, c9, c10, c11, c12, c13, c14⟩ := v
  have hm : min (x + r * (n - n)) b = x := by rw [Nat.sub_self, Nat.mul_zero, Nat.add_zero]; exact Nat.min_eq_left hxb
  refine br_t rfl (rl_ask hv (Nat.le_refl n) hn (by omega) hr hb hc1 hc ?_ ?_)
  · rw [hm]
    intro hle w hw
    obtain ⟨e0, e1, e2, e3, e4, e5, e6, e7, e8, e9, e10, e11, e12, e13, e14⟩ := w
    exact pk_lt x c (fun z => absurd z (by omega)) (fun _ => rl_175 hw hc (by omega) rfl (fun z => absurd z (by omega)) (fun _ => rfl) H)
  · rw [hm]
    intro hlt w hw
    obtain ⟨e0, e1, e2, e3, e4, e5, e6, e7, e8, e9, e10, e11, e12, e13, e14⟩ := w
    exact pk_lt x c (fun _ => rl_175 hw hc (by omega) rfl (fun _ => rfl) (fun z => absurd z (by omega)) H) (fun z => absurd z (by omega))
theorem rl_rem (x : Int32) {d : Nat} (h0 : 0 < d) (hd : d < 2 ^ 31) : ∃ j : Nat, j < d ∧ (x &&& 2147483647) - (x &&& 2147483647) / nI d * nI d = nI j := by
  obtain ⟨m, hm, e⟩ := pk_andE x (m := 2147483647) 31 (by decide)
  exact ⟨m % d, Nat.mod_lt m h0, by rw [e, pk_rem hm h0 hd]⟩
theorem rl_rem1 (x : Int32) {d : Nat} (h0 : 0 < d) (hd : d < 2 ^ 31) : ∃ j : Nat, 1 ≤ j ∧ j ≤ d ∧ 1 + ((x &&& 2147483647) - (x &&& 2147483647) / nI d * nI d) = nI j := by
  obtain ⟨j, hj, e⟩ := rl_rem x h0 hd
  exact ⟨1 + j, by omega, by omega, by rw [e]; exact nI_add 1 j⟩
theorem rl_lawOf {post : Int32 → St0 → Prop} {p0 p1 p2 p3 : Int32} (H : post 1 ()) : wpL_lawOf post 15 319 () p0 p1 p2 p3 := by
  obtain ⟨r, hr1, hr, er⟩ := rl_rem1 p0 (d := 5) (by omega) (by omega)
  obtain ⟨b, hb1, hb, eb⟩ := rl_rem1 p1 (d := 20) (by omega) (by omega)
  obtain ⟨c, hc1, hc, ec⟩ := rl_rem1 p2 (d := b) (by omega) (by omega)
  obtain ⟨k, hk, ek⟩ := rl_rem p3 (d := 30) (by omega) (by omega)
  have hkr : k * r ≤ 30 * 5 := Nat.mul_le_mul (by omega) hr
  unfold wpL_lawOf
  refine ⟨by decide, by decide, 14, 304, by decide, by decide, rl_init (fun v hv => ?_)⟩
  obtain ⟨f0, a1, a2, a3, a4, a5, a6, a7, a8, a9, a10, a11, a12, a13, a14⟩ := v
  refine ⟨by decide, nm_r er ⟨by decide, nm_r eb ⟨nI_ne0 hb1 (by omega), nm_r ec ⟨by decide, nm_r ek ?_⟩⟩⟩⟩
  have en : nI r + 8 * nI b + 256 = nI (r + 8 * b + 256) := by
    rw [show (8 : Int32) = nI 8 from rfl, show (256 : Int32) = nI 256 from rfl, pk_mul, nI_add, nI_add]
  rw [en]
  refine rl_set hv hr1 hr hb1 hb (fun v hv => ?_)
  obtain ⟨f0, a1, a2, a3, a4, a5, a6, a7, a8, a9, a10, a11, a12, a13, a14⟩ := v
  have m1 : min (b + r * (0 - 0)) b = b := by rw [Nat.sub_self, Nat.mul_zero, Nat.add_zero]; exact Nat.min_self b
  refine rl_ask hv (Nat.le_refl 0) (by omega) hb hr hb hb1 hb ?_ (fun z => absurd z (by rw [m1]; omega))
  rw [m1, Nat.sub_self]
  intro _ v hv
  obtain ⟨f0, a1, a2, a3, a4, a5, a6, a7, a8, a9, a10, a11, a12, a13, a14⟩ := v
  have m2 : min (0 + r * (0 - 0)) b = 0 := by rw [Nat.sub_self, Nat.mul_zero, Nat.add_zero]; exact Nat.zero_min b
  refine br_t rfl (rl_room hv (Nat.le_refl 0) (by omega) (by omega) hr hb ?_)
  rw [m2]
  intro v hv
  obtain ⟨f0, a1, a2, a3, a4, a5, a6, a7, a8, a9, a10, a11, a12, a13, a14⟩ := v
  refine br_t rfl (rl_wait hv (Nat.le_refl 0) (by omega) (by omega) hr1 hr hb hc1 hc (by rw [m2]; omega) ?_)
  rw [m2]
  intro v hv
  obtain ⟨f0, a1, a2, a3, a4, a5, a6, a7, a8, a9, a10, a11, a12, a13, a14⟩ := v
  have e0 : nI c - nI 0 + nI r - 1 = nI c + nI r - 1 := by rw [pk_sub (Nat.zero_le c), Nat.sub_zero]
  refine ⟨nI_ne0 hr1 (by omega), br_t (by rw [e0]) (rl_pass hv (by omega) (by omega) (fun v hv => ?_))⟩
  obtain ⟨f0, a1, a2, a3, a4, a5, a6, a7, a8, a9, a10, a11, a12, a13, a14⟩ := v
  rw [Nat.zero_add] at hv
  refine pk_le (k * r) b (fun z => rl_142 hv (by omega) hr hb hc1 (by omega) (pk_mul k r) ?_ H) (fun z => rl_142 hv (by omega) hr hb hc1 (by omega) rfl ?_ H) (pk_mul k r)
  · rw [Nat.sub_zero, Nat.zero_add, Nat.mul_comm r k, Nat.min_eq_left z]
  · rw [Nat.sub_zero, Nat.zero_add, Nat.mul_comm r k, Nat.min_eq_right (Nat.le_of_lt z)]
theorem rl_cell {post : Int32 → Prop} {L : Nat} {xs : Nat → Int32} (hL : L ≤ 4) (k : Nat) (hk : k < 4) (H : ∀ x, post x) : wpL_cellAt post L xs () (nI k) :=
  pk_le L k (fun _ => H _) (fun z => ⟨pk_in k L z, H _⟩)
theorem i_vc (xs : Nat → Int32) (L : Nat) (hL : L ≤ 4) : wpL_law (fun r => r = 1) L xs := by
  unfold wpL_law
  exact rl_cell hL 0 (by omega) (fun x0 => rl_cell hL 1 (by omega) (fun x1 => rl_cell hL 2 (by omega) (fun x2 => rl_cell hL 3 (by omega) (fun x3 => ⟨15, 319, by omega, by omega, rl_lawOf rfl⟩))))
end
