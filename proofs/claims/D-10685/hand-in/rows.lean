section
/-! DetourHooker: each method that the law calls, once; its post general.
    The picture of a state: length is nI n, no hook is set (dh_free), plain is a1; nothing else is looked at. -/
def dh_free (a6 : Nat → Int32) : Prop := ∀ j, j < 4 → a6 j = -1
theorem dh_fill {s : Nat → Int32} {i : Nat} (h : ∀ j, j < i → s j = -1) : ∀ j, j < i + 1 → upd s i (-1) j = -1 := by
  intro j hj
  by_cases e : j = i
  · rw [e, pk_us]
  · rw [pk_un e]
    exact h j (by omega)
theorem dh_byteP : ∀ j, j < 256 → (0 ≤ vb_c j → vb_c j = vb_c j &&& 255) ∧ (¬ 0 ≤ vb_c j → vb_c j + 256 = vb_c j &&& 255) := by decide +kernel
theorem dh_byte {t : Int32} (h1 : ¬ t < (-128)) (h2 : ¬ 127 < t) : (0 ≤ t → t = t &&& 255) ∧ (¬ 0 ≤ t → t + 256 = t &&& 255) := by
  obtain ⟨j, hj, _, e⟩ := bx_small h1 h2
  rw [e]
  exact dh_byteP j hj
theorem dh_init {post : St2 → Prop} {mc ms : Nat} (hc : 10 ≤ mc) (hs : 344 ≤ ms)
    (H : ∀ b, dh_free b → post (0, 0, 0, 0, 0, 0, (fun _ => 0), (fun _ => 0), (fun _ => 0), (fun _ => 0), (fun _ => 0), b, (fun _ => 0), (fun _ => 0), (fun _ => 0), (fun _ => 0))) :
    wpX_init post mc ms (0, 0, 0, 0, 0, 0) := by
  refine ⟨by omega, by omega, by omega, by omega, by omega, by omega, by omega, by omega, by omega, by omega, by omega, by omega, by omega, by omega, by omega, by omega, by omega, by omega, by omega, by omega, ?_⟩
  exact pk_loop (fun n i s => wX_init_82 post mc ms 10 344 0 0 0 0 0 0 n (nI i) (fun _ => 0) (fun _ => 0) (fun _ => 0) (fun _ => 0) (fun _ => 0) s (fun _ => 0) (fun _ => 0) (fun _ => 0) (fun _ => 0))
    (fun i s => ∀ j, j < i → s j = -1) 4 0 (fun _ => 0) (by omega) (fun j hj => absurd hj (by omega))
    (fun n s h => pk_le 4 4 (fun _ => H s h) (fun z => absurd z (by omega)))
    (fun n i s hi h hw => pk_le 4 i (fun z => absurd z (by omega)) (fun _ => ⟨pk_in i 4 hi, nm_r (by rw [nI_clamp (by omega)]) (nm_r (nI_1 i) (hw _ (dh_fill h)))⟩))
section
variable {f g1 g2 g3 g4 g5 : Int32} {a1 a2 a3 a4 a5 a6 a7 a8 a9 a10 : Nat → Int32}
theorem dh_regBad {post : Int32 → Prop} {u : St2} {r : Int32} (h : r < 0 ∨ 3 < r) (H : post 1) : wpX_badReg post u r := by
  obtain ⟨_, _, _, _, _, _, _, _, _, _, _, _, _, _, _, _⟩ := u
  exact br_c (fun _ => H) (fun z => br_f (fun y => (Int32.not_lt.mpr y) (h.resolve_left z)) H)
theorem dh_regOk {post : Int32 → Prop} {u : St2} {r : Int32} (h0 : ¬ r < 0) (h3 : ¬ 3 < r) (H : post 0) : wpX_badReg post u r := by
  obtain ⟨_, _, _, _, _, _, _, _, _, _, _, _, _, _, _, _⟩ := u
  exact br_f h0 (br_t (Int32.not_lt.mp h3) H)
theorem dh_tgtBad {post : Int32 → Prop} {u : St2} {t : Int32} (h : t < (-128) ∨ 127 < t) (H : post 1) : wpX_badTarget post u t := by
  obtain ⟨_, _, _, _, _, _, _, _, _, _, _, _, _, _, _, _⟩ := u
  exact br_c (fun _ => H) (fun z => br_f (fun y => (Int32.not_lt.mpr y) (h.resolve_left z)) H)
theorem dh_tgtOk {post : Int32 → Prop} {u : St2} {t : Int32} (h0 : ¬ t < (-128)) (h3 : ¬ 127 < t) (H : post 0) : wpX_badTarget post u t := by
  obtain ⟨_, _, _, _, _, _, _, _, _, _, _, _, _, _, _, _⟩ := u
  exact br_f h0 (br_t (Int32.not_lt.mp h3) H)
theorem dh_asByte {post : Int32 → Prop} {u : St2} {t : Int32} (h1 : ¬ t < (-128)) (h2 : ¬ 127 < t) (H : post (t &&& 255)) : wpX_asByte post u t := by
  obtain ⟨_, _, _, _, _, _, _, _, _, _, _, _, _, _, _, _⟩ := u
  obtain ⟨hA, hB⟩ := dh_byte h1 h2
  refine br_c (fun z => ?_) (fun z => ?_)
  · rw [← hA z] at H
    exact H
  · rw [← hB z] at H
    exact H
theorem dh_hooks {post : Int32 → Prop} (h6 : dh_free a6) (H : post 0) : wpX_hooks post (f, g1, g2, g3, g4, g5, a1, a2, a3, a4, a5, a6, a7, a8, a9, a10) :=
  pk_loop (σ := Unit) (fun n i _ => wX_hooks_4 post f g1 g2 g3 g4 g5 a1 a2 a3 a4 a5 a6 a7 a8 a9 a10 n 0 (nI i)) (fun _ _ => True) 4 0 () (by omega) trivial
    (fun n _ _ => pk_le 4 4 (fun _ => H) (fun z => absurd z (by omega)))
    (fun n i _ hi _ hw => pk_le 4 i (fun z => absurd z (by omega)) (fun _ => ⟨pk_in i 4 hi, br_t (by rw [nI_clamp (by omega), h6 i hi]; decide) (nm_r (nI_1 i) (hw () trivial))⟩))
theorem dh_slotOf {post : Int32 → Prop} {a : Int32} (h6 : dh_free a6) (ha : ¬ a < 0) (H : post (-1)) : wpX_slotOf post (f, g1, g2, g3, g4, g5, a1, a2, a3, a4, a5, a6, a7, a8, a9, a10) a :=
  pk_loop (σ := Unit) (fun n i _ => wX_slotOf_4 post a f g1 g2 g3 g4 g5 a1 a2 a3 a4 a5 a6 a7 a8 a9 a10 n (-1) (nI i)) (fun _ _ => True) 4 0 () (by omega) trivial
    (fun n _ _ => pk_le 4 4 (fun _ => H) (fun z => absurd z (by omega)))
    (fun n i _ hi _ hw => pk_le 4 i (fun z => absurd z (by omega)) (fun _ => ⟨pk_in i 4 hi, br_f (by rw [nI_clamp (by omega), h6 i hi]; exact fun (z : (-1 : Int32) = a) => ha (z ▸ (by decide : (-1 : Int32) < 0))) (nm_r (nI_1 i) (hw () trivial))⟩))
theorem dh_emit {post : St2 → Prop} {n : Nat} {b : Int32} (hn : n < 64)
    (H : ∀ b2 b3, post (nI (n + 1), g1, g2, g3, g4, g5, upd a1 n b, b2, b3, a4, a5, a6, a7, a8, a9, a10)) :
    wpX_emit post (nI n, g1, g2, g3, g4, g5, a1, a2, a3, a4, a5, a6, a7, a8, a9, a10) b :=
  ⟨pk_in n 64 hn, nm_r (by rw [nI_clamp (by omega)]) ⟨pk_in n 64 hn, nm_e ⟨pk_in n 64 hn, nm_e (nm_r (nI_1 n) (H _ _))⟩⟩⟩
theorem dh_len2 {post : Int32 → Prop} {u : St2} {k : Int32} (k0 : ¬ k = 0) (k7 : ¬ k = 7) (k5 : ¬ k = 5) (H : post 2) : wpX_lengthOf post u k := by
  obtain ⟨_, _, _, _, _, _, _, _, _, _, _, _, _, _, _, _⟩ := u
  exact br_f k0 (br_f k7 (br_f k5 H))
theorem dh_len3 {post : Int32 → Prop} {u : St2} (H : post 3) : wpX_lengthOf post u 5 := by
  obtain ⟨_, _, _, _, _, _, _, _, _, _, _, _, _, _, _, _⟩ := u
  exact br_f (by decide) (br_f (by decide) (br_t rfl H))
/-- an instruction of two bytes is appended -/
theorem dh_app2 {post : Int32 → St2 → Prop} {n : Nat} {k p q : Int32} (hn : n + 2 ≤ 64) (h6 : dh_free a6) (k0 : ¬ k = 0) (k7 : ¬ k = 7) (k5 : ¬ k = 5)
    (H : ∀ b2 b3, post (nI n) (nI (n + 2), g1, g2, g3, g4, g5, upd (upd a1 n k) (n + 1) p, b2, b3, a4, a5, a6, a7, a8, a9, a10)) :
    wpX_append post (nI n, g1, g2, g3, g4, g5, a1, a2, a3, a4, a5, a6, a7, a8, a9, a10) k p q := by
  unfold wpX_append
  dsimp only
  refine dh_hooks h6 ?_
  refine br_t (by decide) ?_
  refine dh_len2 k0 k7 k5 ?_
  refine pk_le (n + 2) 64 (fun _ => ?_) (fun z => absurd z (by omega)) (hx := nI_add n 2)
  refine dh_emit (by omega) (fun b2 b3 => ?_)
  refine ⟨pk_in n 64 (by omega), nm_e ?_⟩
  refine br_f (by decide) ?_
  refine dh_emit (by omega) (fun c2 c3 => ?_)
  exact br_t (by decide) (H c2 c3)
/-- a branch, an instruction of three bytes, is appended -/
theorem dh_app3 {post : Int32 → St2 → Prop} {n : Nat} {p q : Int32} (hn : n + 3 ≤ 64) (h6 : dh_free a6)
    (H : ∀ b2 b3, post (nI n) (nI (n + 3), g1, g2, g3, g4, g5, upd (upd (upd a1 n 5) (n + 1) p) (n + 2) q, b2, b3, a4, a5, a6, a7, a8, a9, a10)) :
    wpX_append post (nI n, g1, g2, g3, g4, g5, a1, a2, a3, a4, a5, a6, a7, a8, a9, a10) 5 p q := by
  unfold wpX_append
  dsimp only
  refine dh_hooks h6 ?_
  refine br_t (by decide) ?_
  refine dh_len3 ?_
  refine pk_le (n + 3) 64 (fun _ => ?_) (fun z => absurd z (by omega)) (hx := nI_add n 3)
  refine dh_emit (by omega) (fun b2 b3 => ?_)
  refine ⟨pk_in n 64 (by omega), nm_e ?_⟩
  refine br_f (by decide) ?_
  refine dh_emit (by omega) (fun c2 c3 => ?_)
  refine br_f (by decide) ?_
  exact dh_emit (by omega) (fun d2 d3 => H d2 d3)
theorem dh_incOk {post : Int32 → St2 → Prop} {n : Nat} {r : Int32} (hn : n + 2 ≤ 64) (h6 : dh_free a6) (h0 : ¬ r < 0) (h3 : ¬ 3 < r)
    (H : ∀ b2 b3, post (nI n) (nI (n + 2), g1, g2, g3, g4, g5, upd (upd a1 n 1) (n + 1) r, b2, b3, a4, a5, a6, a7, a8, a9, a10)) :
    wpX_inc post (nI n, g1, g2, g3, g4, g5, a1, a2, a3, a4, a5, a6, a7, a8, a9, a10) r := by
  unfold wpX_inc
  dsimp only
  refine dh_regOk h0 h3 ?_
  refine br_t rfl ?_
  exact dh_app2 hn h6 (by decide) (by decide) (by decide) H
theorem dh_incBad {post : Int32 → St2 → Prop} {r : Int32} (h : r < 0 ∨ 3 < r) (H : post (-1) (f, g1, g2, g3, g4, g5, a1, a2, a3, a4, a5, a6, a7, a8, a9, a10)) :
    wpX_inc post (f, g1, g2, g3, g4, g5, a1, a2, a3, a4, a5, a6, a7, a8, a9, a10) r := by
  unfold wpX_inc
  dsimp only
  refine dh_regBad h ?_
  exact br_f (by decide) H
theorem dh_moveOk {post : Int32 → St2 → Prop} {n : Nat} {r s : Int32} (hn : n + 2 ≤ 64) (h6 : dh_free a6) (h0 : ¬ r < 0) (h3 : ¬ 3 < r) (s0 : ¬ s < 0) (s3 : ¬ 3 < s)
    (H : ∀ b2 b3, post (nI n) (nI (n + 2), g1, g2, g3, g4, g5, upd (upd a1 n 3) (n + 1) (r + 4 * s), b2, b3, a4, a5, a6, a7, a8, a9, a10)) :
    wpX_move post (nI n, g1, g2, g3, g4, g5, a1, a2, a3, a4, a5, a6, a7, a8, a9, a10) r s := by
  unfold wpX_move
  dsimp only
  refine dh_regOk h0 h3 ?_
  refine br_t rfl ?_
  refine dh_regOk s0 s3 ?_
  refine br_t rfl ?_
  exact dh_app2 hn h6 (by decide) (by decide) (by decide) H
theorem dh_moveBad {post : Int32 → St2 → Prop} {r s : Int32} (h : (r < 0 ∨ 3 < r) ∨ (s < 0 ∨ 3 < s)) (H : post (-1) (f, g1, g2, g3, g4, g5, a1, a2, a3, a4, a5, a6, a7, a8, a9, a10)) :
    wpX_move post (f, g1, g2, g3, g4, g5, a1, a2, a3, a4, a5, a6, a7, a8, a9, a10) r s := by
  unfold wpX_move
  dsimp only
  by_cases hr : r < 0 ∨ 3 < r
  · refine dh_regBad hr ?_
    exact br_f (by decide) H
  · refine dh_regOk (fun z => hr (Or.inl z)) (fun z => hr (Or.inr z)) ?_
    refine br_t rfl ?_
    refine dh_regBad (h.resolve_left hr) ?_
    exact br_f (by decide) H
theorem dh_branchOk {post : Int32 → St2 → Prop} {n : Nat} {r t : Int32} (hn : n + 3 ≤ 64) (h6 : dh_free a6) (h0 : ¬ r < 0) (h3 : ¬ 3 < r) (t0 : ¬ t < (-128)) (t3 : ¬ 127 < t)
    (H : ∀ b2 b3, post (nI n) (nI (n + 3), g1, g2, g3, g4, g5, upd (upd (upd a1 n 5) (n + 1) r) (n + 2) (t &&& 255), b2, b3, a4, a5, a6, a7, a8, a9, a10)) :
    wpX_branch post (nI n, g1, g2, g3, g4, g5, a1, a2, a3, a4, a5, a6, a7, a8, a9, a10) r t := by
  unfold wpX_branch
  dsimp only
  refine dh_regOk h0 h3 ?_
  refine br_t rfl ?_
  refine dh_tgtOk t0 t3 ?_
  refine br_t rfl ?_
  refine dh_asByte t0 t3 ?_
  exact dh_app3 hn h6 H
theorem dh_branchBad {post : Int32 → St2 → Prop} {r t : Int32} (h : (r < 0 ∨ 3 < r) ∨ (t < (-128) ∨ 127 < t)) (H : post (-1) (f, g1, g2, g3, g4, g5, a1, a2, a3, a4, a5, a6, a7, a8, a9, a10)) :
    wpX_branch post (f, g1, g2, g3, g4, g5, a1, a2, a3, a4, a5, a6, a7, a8, a9, a10) r t := by
  unfold wpX_branch
  dsimp only
  by_cases hr : r < 0 ∨ 3 < r
  · refine dh_regBad hr ?_
    exact br_f (by decide) H
  · refine dh_regOk (fun z => hr (Or.inl z)) (fun z => hr (Or.inr z)) ?_
    refine br_t rfl ?_
    refine dh_tgtBad (h.resolve_left hr) ?_
    exact br_f (by decide) H
theorem dh_length {post : Int32 → Prop} (H : post f) : wpX_length post (f, g1, g2, g3, g4, g5, a1, a2, a3, a4, a5, a6, a7, a8, a9, a10) := H
/-- peek: -1 outside of [0, n), the byte inside -/
theorem dh_peek {post : Int32 → Prop} {n : Nat} {a : Int32} (hn : n ≤ 64)
    (H : ∀ v, (a < 0 → v = -1) → (nI n ≤ a → v = -1) → (∀ j, j < n → a = nI j → v = a1 j) → post v) :
    wpX_peek post (nI n, g1, g2, g3, g4, g5, a1, a2, a3, a4, a5, a6, a7, a8, a9, a10) a := by
  refine br_c (fun z => H (-1) (fun _ => rfl) (fun _ => rfl) (fun j hj e => absurd z (by rw [e]; exact nI_pos (by omega)))) (fun z => ?_)
  obtain ⟨j, hj, rfl⟩ := nI_of z
  refine pk_lt j n (fun hlt => ⟨pk_in j 64 (by omega), ?_⟩) (fun hge => ?_)
  · rw [nI_clamp hj]
    refine H (a1 j) (fun y => absurd y z) (fun y => absurd y (nI_ge hlt (by omega))) (fun i hi e => ?_)
    rw [(nI_eq hj (by omega)).mp e]
  · refine H (-1) (fun _ => rfl) (fun _ => rfl) (fun i hi e => ?_)
    have := (nI_eq hj (by omega)).mp e
    omega
/-- unhook where no hook is set -/
theorem dh_unhook {post : Int32 → St2 → Prop} {a : Int32} (h6 : dh_free a6)
    (H : ∀ v, (a < 0 → v = -1) → (63 < a → v = -1) → (¬ a < 0 → ¬ 63 < a → v = -3) → post v (f, g1, g2, g3, g4, g5, a1, a2, a3, a4, a5, a6, a7, a8, a9, a10)) :
    wpX_unhook post (f, g1, g2, g3, g4, g5, a1, a2, a3, a4, a5, a6, a7, a8, a9, a10) a := by
  refine br_c (fun z => H (-1) (fun _ => rfl) (fun _ => rfl) (fun y => absurd z y)) (fun z => ?_)
  obtain ⟨j, hj, rfl⟩ := nI_of z
  refine pk_lt j 64 (fun hlt => ?_) (fun hge => ?_)
  · refine dh_slotOf h6 z ?_
    refine br_f (by decide) ?_
    exact H (-3) (fun y => absurd y z) (fun y => absurd y (nI_nlt (a := 63) (b := j) (by omega) (by omega))) (fun _ _ => rfl)
  · exact H (-1) (fun y => absurd y z) (fun _ => rfl) (fun _ y => absurd (nI_lt (a := 63) (b := j) (by omega) hj) y)
end
end
section
/-! the law's own rows behind the calls: r s t a the script; x5 first, x6 second, x7 third, x8 length, v there, w gone; x11 x12 x13 the flags rIn sIn tIn -/
def dh_ok (a x5 x6 x7 x8 v w x11 x12 x13 x14 x15 z : Int32) : Prop :=
  ((x11 = 0 → x5 = -1) ∧ (¬ x11 = 0 → x5 = 0)) ∧ ((x12 = 0 → x6 = -1) ∧ (¬ x12 = 0 → x6 = 2)) ∧ ((x13 = 0 → x7 = -1) ∧ (¬ x13 = 0 → x7 = x14)) ∧ x8 = x15 ∧
  (a < 0 → v = -1) ∧ (x15 ≤ a → v = -1) ∧ (¬ a < 0 → ¬ x15 ≤ a → v = z) ∧ (a < 0 → w = -1) ∧ (63 < a → w = -1) ∧ (¬ a < 0 → ¬ 63 < a → w = -3)
def dh_due (r s t a x12 x14 : Int32) : Int32 :=
  if a = 0 then 1 else if a = 1 then r else if ¬ x12 = 0 ∧ a = 2 then 3 else if ¬ x12 = 0 ∧ a = 3 then r + 4 * s else if a = x14 then 5 else if a = x14 + 1 then r else t &&& 255
section
variable {post : Int32 → St0 → Prop} {mc ms kc ks : Nat} {r s t a x5 x6 x7 x8 v w x11 x12 x13 x14 x15 z y : Int32}
theorem dh_314 (hp : post 1 ()) (e : y = z) (w1 : a < 0 → w = -1) (w2 : 63 < a → w = -1) (w3 : ¬ a < 0 → ¬ 63 < a → w = -3) : wL_lawOf_314 post mc ms a w z y kc ks :=
  br_t e (br_c (fun h => br_t (w1 h) hp) (fun h => br_c (fun g => br_t (w2 g) hp) (fun g => br_t (w3 h g) hp)))
theorem dh_286 (hp : post 1 ()) (e : x7 = y) (e8 : x8 = x15) (v1 : a < 0 → v = -1) (v2 : x15 ≤ a → v = -1) (v3 : ¬ a < 0 → ¬ x15 ≤ a → v = z)
    (w1 : a < 0 → w = -1) (w2 : 63 < a → w = -1) (w3 : ¬ a < 0 → ¬ 63 < a → w = -3) : wL_lawOf_286 post mc ms a x8 v w x15 z y x7 kc ks :=
  br_t e (br_t e8 (br_c (fun h => dh_314 hp (v1 h) w1 w2 w3) (fun h => br_c (fun g => dh_314 hp (v2 g) w1 w2 w3) (fun g => dh_314 hp (v3 h g) w1 w2 w3))))
theorem dh_241 (hp : post 1 ()) (h : dh_ok a x5 x6 x7 x8 v w x11 x12 x13 x14 x15 z) : wL_lawOf_241 post mc ms a x5 x6 x7 x8 v w x11 x12 x13 x14 x15 z kc ks := by
  obtain ⟨⟨p1, p2⟩, ⟨q1, q2⟩, ⟨u1, u2⟩, e8, v1, v2, v3, w1, w2, w3⟩ := h
  have A : ∀ d, x6 = d → wL_lawOf_270 post mc ms a x7 x8 v w x13 x14 x15 z d x6 kc ks := fun d e =>
    br_t e (br_c (fun g => dh_286 hp (u1 g) e8 v1 v2 v3 w1 w2 w3) (fun g => dh_286 hp (u2 g) e8 v1 v2 v3 w1 w2 w3))
  have B : ∀ d, x5 = d → wL_lawOf_255 post mc ms a x6 x7 x8 v w x12 x13 x14 x15 z d x5 kc ks := fun d e =>
    br_t e (br_c (fun g => A _ (q1 g)) (fun g => A _ (q2 g)))
  exact br_c (fun g => B _ (p1 g)) (fun g => B _ (p2 g))
theorem dh_162 {z0 z1 : Int32} (hp : post 1 ()) (h : dh_ok a x5 x6 x7 x8 v w x11 x12 x13 x14 (z1 + z0) (dh_due r s t a x12 x14)) :
    wL_lawOf_162 post mc ms r s t a x5 x6 x7 x8 v w x11 x12 x13 x14 z0 z1 kc ks := by
  unfold wL_lawOf_162
  refine nm_e ?_
  unfold dh_due at h
  refine br_c (fun e0 => ?_) (fun e0 => ?_)
  · rw [if_pos e0] at h
    exact dh_241 hp h
  rw [if_neg e0] at h
  refine br_c (fun e1 => ?_) (fun e1 => ?_)
  · rw [if_pos e1] at h
    exact dh_241 hp h
  rw [if_neg e1] at h
  have C : dh_ok a x5 x6 x7 x8 v w x11 x12 x13 x14 (z1 + z0) (if a = x14 then 5 else if a = x14 + 1 then r else t &&& 255) →
      wL_lawOf_214 post mc ms r t a x5 x6 x7 x8 v w x11 x12 x13 x14 (z1 + z0) kc ks := by
    intro h
    refine br_c (fun e => ?_) (fun e => ?_)
    · rw [if_pos e] at h
      exact dh_241 hp h
    rw [if_neg e] at h
    refine br_c (fun e => ?_) (fun e => ?_)
    · rw [if_pos e] at h
      exact dh_241 hp h
    · rw [if_neg e] at h
      exact dh_241 hp h
  refine br_c (fun e => ?_) (fun e => ?_)
  · rw [if_neg (fun (g : ¬ x12 = 0 ∧ a = 2) => g.1 e), if_neg (fun (g : ¬ x12 = 0 ∧ a = 3) => g.1 e)] at h
    exact br_t e (C h)
  refine br_c (fun e2 => ?_) (fun e2 => ?_)
  · rw [if_pos ⟨e, e2⟩] at h
    exact dh_241 hp h
  rw [if_neg (fun (g : ¬ x12 = 0 ∧ a = 2) => e2 g.2)] at h
  refine br_f e ?_
  refine br_c (fun e3 => ?_) (fun e3 => ?_)
  · rw [if_pos ⟨e, e3⟩] at h
    exact dh_241 hp h
  rw [if_neg (fun (g : ¬ x12 = 0 ∧ a = 3) => e3 g.2)] at h
  exact C h
/-- the fields that the law works out: from, end, due -/
theorem dh_117 (hp : post 1 ()) (h : dh_ok a x5 x6 x7 x8 v w x11 x12 x13 (if x12 = 0 then 2 else 4) (((if x11 = 0 then 0 else 2) + (if x12 = 0 then 0 else 2)) + (if x13 = 0 then 0 else 3)) (dh_due r s t a x12 (if x12 = 0 then 2 else 4))) :
    wL_lawOf_117 post mc ms r s t a x5 x6 x7 x8 v w x11 x12 x13 kc ks := by
  have D : ∀ (d q p : Int32), dh_ok a x5 x6 x7 x8 v w x11 x12 x13 d ((p + q) + (if x13 = 0 then 0 else 3)) (dh_due r s t a x12 d) → wL_lawOf_151 post mc ms r s t a x5 x6 x7 x8 v w x11 x12 x13 d q p kc ks := by
    intro d q p h
    refine br_c (fun e => ?_) (fun e => ?_)
    · rw [if_pos e] at h
      exact dh_162 hp h
    · rw [if_neg e] at h
      exact dh_162 hp h
  have E : ∀ (d p : Int32), dh_ok a x5 x6 x7 x8 v w x11 x12 x13 d ((p + (if x12 = 0 then 0 else 2)) + (if x13 = 0 then 0 else 3)) (dh_due r s t a x12 d) → wL_lawOf_141 post mc ms r s t a x5 x6 x7 x8 v w x11 x12 x13 d p kc ks := by
    intro d p h
    refine br_c (fun e => ?_) (fun e => ?_)
    · rw [if_pos e] at h
      exact D _ _ _ h
    · rw [if_neg e] at h
      exact D _ _ _ h
  have F : ∀ (d : Int32), dh_ok a x5 x6 x7 x8 v w x11 x12 x13 d (((if x11 = 0 then 0 else 2) + (if x12 = 0 then 0 else 2)) + (if x13 = 0 then 0 else 3)) (dh_due r s t a x12 d) → wL_lawOf_129 post mc ms r s t a x5 x6 x7 x8 v w x11 x12 x13 d kc ks := by
    intro d h
    refine br_c (fun e => ?_) (fun e => ?_)
    · rw [if_pos e] at h
      exact E _ _ h
    · rw [if_neg e] at h
      exact E _ _ h
  refine br_c (fun e => F _ ?_) (fun e => F _ ?_)
  · rw [show (if x12 = 0 then (2 : Int32) else 4) = 2 from if_pos e] at h
    exact h
  · rw [show (if x12 = 0 then (2 : Int32) else 4) = 4 from if_neg e] at h
    exact h
/-- r out of range -/
theorem dh_72a (hr : r < 0 ∨ 3 < r) (H : wL_lawOf_117 post mc ms r s t a x5 x6 x7 x8 v w 0 0 0 kc ks) : (r < 0 → wL_lawOf_71 post mc ms r s t a x5 x6 x7 x8 v w kc ks) ∧ (¬ r < 0 → ((3 < r → wL_lawOf_71 post mc ms r s t a x5 x6 x7 x8 v w kc ks) ∧ (¬ 3 < r → wL_lawOf_72 post mc ms r s t a x5 x6 x7 x8 v w 1 kc ks))) := by
  have G : wL_lawOf_71 post mc ms r s t a x5 x6 x7 x8 v w kc ks := by
    unfold wL_lawOf_71 wL_lawOf_72
    refine br_t rfl ?_
    unfold wL_lawOf_92 wL_lawOf_93
    refine br_t rfl ?_
    exact H
  exact br_c (fun _ => G) (fun g => br_t (hr.resolve_left g) G)
theorem dh_93 {f : Int32} (hf : f = if t < (-128) ∨ 127 < t then 0 else 1) (H : wL_lawOf_117 post mc ms r s t a x5 x6 x7 x8 v w 1 x12 f kc ks) : wL_lawOf_93 post mc ms r s t a x5 x6 x7 x8 v w 1 x12 kc ks := by
  refine br_f (by decide) ?_
  by_cases ht : t < (-128) ∨ 127 < t
  · rw [if_pos ht] at hf
    subst hf
    exact br_c (fun _ => H) (fun g => br_t (ht.resolve_left g) H)
  · rw [if_neg ht] at hf
    subst hf
    exact br_f (fun g => ht (Or.inl g)) (br_f (fun g => ht (Or.inr g)) H)
/-- r in range -/
theorem dh_72b {e f : Int32} (r0 : ¬ r < 0) (r3 : ¬ 3 < r) (he : e = if s < 0 ∨ 3 < s then 0 else 1) (hf : f = if t < (-128) ∨ 127 < t then 0 else 1) (H : wL_lawOf_117 post mc ms r s t a x5 x6 x7 x8 v w 1 e f kc ks) :
    (r < 0 → wL_lawOf_71 post mc ms r s t a x5 x6 x7 x8 v w kc ks) ∧ (¬ r < 0 → ((3 < r → wL_lawOf_71 post mc ms r s t a x5 x6 x7 x8 v w kc ks) ∧ (¬ 3 < r → wL_lawOf_72 post mc ms r s t a x5 x6 x7 x8 v w 1 kc ks))) := by
  refine br_f r0 (br_f r3 ?_)
  refine br_f (by decide) ?_
  have G := dh_93 hf H
  by_cases hs : s < 0 ∨ 3 < s
  · rw [if_pos hs] at he
    subst he
    exact br_c (fun _ => G) (fun g => br_t (hs.resolve_left g) G)
  · rw [if_neg hs] at he
    subst he
    exact br_f (fun g => hs (Or.inl g)) (br_f (fun g => hs (Or.inr g)) G)
end
end
section
/-- what peek answered is what is due, place by place -/
theorem dh_place {a v e : Int32} {n : Nat} {a1 : Nat → Int32} {due : Int32 → Int32} (hn : n < 2 ^ 31) (he : e = nI n) (hv : ∀ j, j < n → a = nI j → v = a1 j) (hd : ∀ j, j < n → a1 j = due (nI j)) :
    ¬ a < 0 → ¬ e ≤ a → v = due a := by
  intro h0 h1
  obtain ⟨j, hj, rfl⟩ := nI_of h0
  have hjn : j < n := by
    rcases Nat.lt_or_ge j n with z | z
    · exact z
    · exact absurd (show e ≤ nI j from by rw [he]; exact nI_le z hj) h1
  rw [hv j hjn rfl]
  exact hd j hjn
section
variable {r s t : Int32} {b : Nat → Int32}
theorem dh_d2 : ∀ j, j < 2 → upd (upd b 0 1) 1 r j = dh_due r s t (nI j) 0 2
  | 0, _ => rfl
  | 1, _ => rfl
theorem dh_d5 : ∀ j, j < 5 → upd (upd (upd (upd (upd b 0 1) 1 r) 2 5) 3 r) 4 (t &&& 255) j = dh_due r s t (nI j) 0 2
  | 0, _ => rfl
  | 1, _ => rfl
  | 2, _ => rfl
  | 3, _ => rfl
  | 4, _ => rfl
theorem dh_d4 : ∀ j, j < 4 → upd (upd (upd (upd b 0 1) 1 r) 2 3) 3 (r + 4 * s) j = dh_due r s t (nI j) 1 4
  | 0, _ => rfl
  | 1, _ => rfl
  | 2, _ => rfl
  | 3, _ => rfl
theorem dh_d7 : ∀ j, j < 7 → upd (upd (upd (upd (upd (upd (upd b 0 1) 1 r) 2 3) 3 (r + 4 * s)) 4 5) 5 r) 6 (t &&& 255) j = dh_due r s t (nI j) 1 4
  | 0, _ => rfl
  | 1, _ => rfl
  | 2, _ => rfl
  | 3, _ => rfl
  | 4, _ => rfl
  | 5, _ => rfl
  | 6, _ => rfl
end
theorem dh_c01 {A B : Prop} (h : A) : ((0 : Int32) = 0 → A) ∧ (¬ (0 : Int32) = 0 → B) := br_t rfl h
theorem dh_c11 {A B : Prop} (h : B) : ((1 : Int32) = 0 → A) ∧ (¬ (1 : Int32) = 0 → B) := br_f (by decide) h
theorem dh_lawOf {post : Int32 → St0 → Prop} (hp : post 1 ()) (r s t a : Int32) : wpL_lawOf post 100 2000 () r s t a := by
  unfold wpL_lawOf
  refine ⟨by omega, by omega, 50, 1000, by omega, by omega, ?_⟩
  refine dh_init (by omega) (by omega) (fun b hb => ?_)
  by_cases hr : r < 0 ∨ 3 < r
  · refine dh_incBad hr ?_
    refine dh_moveBad (Or.inl hr) ?_
    refine dh_branchBad (Or.inl hr) ?_
    refine dh_length ?_
    refine dh_peek (n := 0) (by omega) (fun v v1 v2 v3 => ?_)
    refine dh_unhook hb (fun w w1 w2 w3 => ?_)
    refine dh_72a hr (dh_117 hp ?_)
    exact ⟨dh_c01 rfl, dh_c01 rfl, dh_c01 rfl, rfl, v1, v2, fun g0 g1 => absurd (Int32.not_lt.mp g0) g1, w1, w2, w3⟩
  · have r0 : ¬ r < 0 := fun z => hr (Or.inl z)
    have r3 : ¬ 3 < r := fun z => hr (Or.inr z)
    refine dh_incOk (n := 0) (by omega) hb r0 r3 (fun _ _ => ?_)
    by_cases hs : s < 0 ∨ 3 < s
    · refine dh_moveBad (Or.inr hs) ?_
      by_cases ht : t < (-128) ∨ 127 < t
      · refine dh_branchBad (Or.inr ht) ?_
        refine dh_length ?_
        refine dh_peek (n := 2) (by omega) (fun v v1 v2 v3 => ?_)
        refine dh_unhook hb (fun w w1 w2 w3 => ?_)
        refine dh_72b r0 r3 (if_pos hs).symm (if_pos ht).symm (dh_117 hp ?_)
        exact ⟨dh_c11 rfl, dh_c01 rfl, dh_c01 rfl, rfl, v1, v2, dh_place (n := 2) (due := fun y => dh_due r s t y 0 2) (by omega) rfl v3 (dh_d2 (r := r) (s := s) (t := t) (b := fun _ => 0)), w1, w2, w3⟩
      · refine dh_branchOk (n := 2) (by omega) hb r0 r3 (fun z => ht (Or.inl z)) (fun z => ht (Or.inr z)) (fun _ _ => ?_)
        refine dh_length ?_
        refine dh_peek (n := 5) (by omega) (fun v v1 v2 v3 => ?_)
        refine dh_unhook hb (fun w w1 w2 w3 => ?_)
        refine dh_72b r0 r3 (if_pos hs).symm (if_neg ht).symm (dh_117 hp ?_)
        exact ⟨dh_c11 rfl, dh_c01 rfl, dh_c11 rfl, rfl, v1, v2, dh_place (n := 5) (due := fun y => dh_due r s t y 0 2) (by omega) rfl v3 (dh_d5 (r := r) (s := s) (t := t) (b := fun _ => 0)), w1, w2, w3⟩
    · refine dh_moveOk (n := 2) (by omega) hb r0 r3 (fun z => hs (Or.inl z)) (fun z => hs (Or.inr z)) (fun _ _ => ?_)
      by_cases ht : t < (-128) ∨ 127 < t
      · refine dh_branchBad (Or.inr ht) ?_
        refine dh_length ?_
        refine dh_peek (n := 4) (by omega) (fun v v1 v2 v3 => ?_)
        refine dh_unhook hb (fun w w1 w2 w3 => ?_)
        refine dh_72b r0 r3 (if_neg hs).symm (if_pos ht).symm (dh_117 hp ?_)
        exact ⟨dh_c11 rfl, dh_c11 rfl, dh_c01 rfl, rfl, v1, v2, dh_place (n := 4) (due := fun y => dh_due r s t y 1 4) (by omega) rfl v3 (dh_d4 (r := r) (s := s) (t := t) (b := fun _ => 0)), w1, w2, w3⟩
      · refine dh_branchOk (n := 4) (by omega) hb r0 r3 (fun z => ht (Or.inl z)) (fun z => ht (Or.inr z)) (fun _ _ => ?_)
        refine dh_length ?_
        refine dh_peek (n := 7) (by omega) (fun v v1 v2 v3 => ?_)
        refine dh_unhook hb (fun w w1 w2 w3 => ?_)
        refine dh_72b r0 r3 (if_neg hs).symm (if_neg ht).symm (dh_117 hp ?_)
        exact ⟨dh_c11 rfl, dh_c11 rfl, dh_c11 rfl, rfl, v1, v2, dh_place (n := 7) (due := fun y => dh_due r s t y 1 4) (by omega) rfl v3 (dh_d7 (r := r) (s := s) (t := t) (b := fun _ => 0)), w1, w2, w3⟩
theorem dh_cell {post : Int32 → Prop} {L : Nat} {xs : Nat → Int32} (hL : L ≤ 4) (k : Nat) (hk : k < 4) (H : ∀ x, post x) : wpL_cellAt post L xs () (nI k) :=
  pk_le L k (fun _ => H _) (fun z => ⟨pk_in k L z, H _⟩)
theorem i_vc (xs : Nat → Int32) (L : Nat) (hL : L ≤ 4) : wpL_law (fun r => r = 1) L xs := by
  unfold wpL_law
  refine dh_cell hL 0 (by omega) (fun r => ?_)
  refine dh_cell hL 1 (by omega) (fun s => ?_)
  refine dh_cell hL 2 (by omega) (fun t => ?_)
  refine dh_cell hL 3 (by omega) (fun a => ?_)
  exact ⟨100, 2000, by omega, by omega, dh_lawOf (post := fun r_5 _ => r_5 = 1) rfl r s t a⟩
end
