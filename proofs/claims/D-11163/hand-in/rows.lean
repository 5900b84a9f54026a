section
/-- how many entries stand ahead of row n in a matrix that holds v at row i alone -/
def sk_on (i : Nat) (v : Int32) (n : Nat) : Nat := if i < n ∧ v ≠ 0 then 1 else 0
theorem sk_on_0 (i : Nat) (v : Int32) : sk_on i v 0 = 0 := by
  unfold sk_on
  rw [if_neg (fun h => absurd h.1 (by omega))]
theorem sk_on_le (i : Nat) (v : Int32) (n : Nat) : sk_on i v n ≤ 1 := by
  unfold sk_on
  split <;> omega
theorem sk_on_z (i n : Nat) : sk_on i 0 n = 0 := by
  unfold sk_on
  rw [if_neg (fun h => h.2 rfl)]
theorem sk_on_lo {i n : Nat} (v : Int32) (h : n ≤ i) : sk_on i v n = 0 := by
  unfold sk_on
  rw [if_neg (fun z => absurd z.1 (by omega))]
theorem sk_on_hi {i n : Nat} {v : Int32} (h : i < n) (hv : v ≠ 0) : sk_on i v n = 1 := by
  unfold sk_on
  rw [if_pos ⟨h, hv⟩]
theorem sk_on_ne {i n : Nat} (v : Int32) (h : i ≠ n) : sk_on i v (n + 1) = sk_on i v n := by
  unfold sk_on
  by_cases hv : v ≠ 0
  · by_cases hi : i < n
    · rw [if_pos (show i < n + 1 ∧ v ≠ 0 from ⟨by omega, hv⟩), if_pos ⟨hi, hv⟩]
    · rw [if_neg (show ¬ (i < n + 1 ∧ v ≠ 0) from fun z => absurd z.1 (by omega)), if_neg (fun z => hi z.1)]
  · rw [if_neg (show ¬ (i < n + 1 ∧ v ≠ 0) from fun z => hv z.2), if_neg (fun z => hv z.2)]
/-- slot s holds v at (i, j), and nothing else -/
def sk_slot (s i j : Nat) (v : Int32) (a1 a2 a3 : Nat → Int32) : Prop :=
  (∀ n, n ≤ 6 → a1 (s * 7 + n) = nI (sk_on i v n)) ∧ (v ≠ 0 → a2 (s * 36) = nI j ∧ a3 (s * 36) = v)
/-- all but slot t is kept -/
def sk_keep (t : Nat) (a1 a2 a3 b1 b2 b3 : Nat → Int32) : Prop :=
  (∀ n, (n < t * 7 ∨ t * 7 + 7 ≤ n) → b1 n = a1 n) ∧ (∀ n, (n < t * 36 ∨ t * 36 + 36 ≤ n) → b2 n = a2 n ∧ b3 n = a3 n)
theorem sk_slot_keep {s t i j : Nat} {v : Int32} {a1 a2 a3 b1 b2 b3 : Nat → Int32} (hst : s ≠ t) (k : sk_keep t a1 a2 a3 b1 b2 b3) (h : sk_slot s i j v a1 a2 a3) : sk_slot s i j v b1 b2 b3 := by
  refine ⟨fun n hn => ?_, fun hv => ?_⟩
  · rw [k.1 _ (by omega)]
    exact h.1 n hn
  · have q := k.2 (s * 36) (by omega)
    rw [q.1, q.2]
    exact h.2 hv
/-- f laid over g from o on, c places -/
def sk_cp (f g : Nat → Int32) (o c : Nat) : Nat → Int32 := fun n => if o ≤ n ∧ n < o + c then f (n - o) else g n
theorem sk_cp_0 (f g : Nat → Int32) (o : Nat) : sk_cp f g o 0 = g := by
  funext n
  unfold sk_cp
  rw [if_neg (by omega)]
theorem sk_cp_in {f g : Nat → Int32} {o c n : Nat} (h : n < c) : sk_cp f g o c (o + n) = f n := by
  unfold sk_cp
  rw [if_pos (by omega), show o + n - o = n by omega]
theorem sk_cp_out {f g : Nat → Int32} {o c n : Nat} (h : n < o ∨ o + c ≤ n) : sk_cp f g o c n = g n := by
  unfold sk_cp
  rw [if_neg (by omega)]
theorem sk_cp_s (f g : Nat → Int32) (o c : Nat) : upd (sk_cp f g o c) (o + c) (f c) = sk_cp f g o (c + 1) := by
  funext n
  by_cases e : n = o + c
  · rw [e, pk_us, sk_cp_in (by omega)]
  · rw [pk_un e]
    unfold sk_cp
    by_cases z : o ≤ n ∧ n < o + c
    · rw [if_pos z, if_pos (by omega)]
    · rw [if_neg z, if_neg (by omega)]
theorem sk_one : ¬ (1 : Int32) = 0 := by decide
theorem sk_b8 : ∀ c, c < 128 → (nI c).toInt8.toInt32 = nI c := by decide +kernel
theorem sk_nb {c : Nat} (h : c < 128) : vp_nar .byte (nI c) = nI c := by
  rw [vp_nar_byte, sk_b8 c h]
theorem sk_m7 (s i : Nat) : nI s * 7 + nI i = nI (s * 7 + i) := by
  rw [show (7 : Int32) = nI 7 from rfl, pk_mul, nI_add]
theorem sk_m36 (s i : Nat) : nI s * 36 + nI i = nI (s * 36 + i) := by
  rw [show (36 : Int32) = nI 36 from rfl, pk_mul, nI_add]
theorem sk_isSlot {post : Int32 → Prop} {x : Int32} (s : Nat) (hs : s < 5) (hp : post 1) (hx : x = nI s := by rfl) : wpX_isSlot post () x := by
  subst hx
  exact br_f (nI_pos (by omega)) (br_f (nI_ge (b := 5) hs (by decide)) hp)
theorem sk_isIndex {post : Int32 → Prop} {x : Int32} (s : Nat) (hs : s < 6) (hp : post 1) (hx : x = nI s := by rfl) : wpX_isIndex post () x := by
  subst hx
  exact br_f (nI_pos (by omega)) (br_f (nI_ge (b := 6) hs (by decide)) hp)
theorem sk_from {post : Int32 → Prop} {m x y : Int32} {a1 a2 a3 a4 a5 a6 a7 : Nat → Int32} (s i e : Nat) (hs : s < 5) (hi : i < 6) (he : a1 (s * 7 + i) = nI e) (hp : post (nI (s * 36 + e))) (hx : x = nI s := by rfl) (hy : y = nI i := by rfl) : wpX_from post (m, a1, a2, a3, a4, a5, a6, a7) x y := by
  subst hx hy
  unfold wpX_from
  dsimp only
  rw [sk_m7, nI_clamp (by omega), he, sk_m36]
  exact ⟨vp_in_nI (by omega) (by omega), hp⟩
theorem sk_upTo {post : Int32 → Prop} {m x y : Int32} {a1 a2 a3 a4 a5 a6 a7 : Nat → Int32} (s i e : Nat) (hs : s < 5) (hi : i < 6) (he : a1 (s * 7 + (i + 1)) = nI e) (hp : post (nI (s * 36 + e))) (hx : x = nI s := by rfl) (hy : y = nI i := by rfl) : wpX_upTo post (m, a1, a2, a3, a4, a5, a6, a7) x y := by
  subst hx hy
  unfold wpX_upTo
  dsimp only
  rw [sk_m7, nI_1, Nat.add_assoc, nI_clamp (by omega), he, sk_m36]
  exact ⟨vp_in_nI (by omega) (by omega), hp⟩
theorem sk_endRow {post : St2 → Prop} {x y : Int32} {a1 a2 a3 a4 a5 a6 a7 : Nat → Int32} (c r : Nat) (hc : c < 128) (hr : r < 6) (hp : post (nI c, a1, a2, a3, upd a4 (r + 1) (nI c), a5, a6, a7)) (hx : x = nI r := by rfl) (hy : y = nI c := by rfl) : wpX_endRow post (y, a1, a2, a3, a4, a5, a6, a7) x := by
  subst hx hy
  unfold wpX_endRow
  dsimp only
  rw [nI_1, nI_clamp (by omega), sk_b8 c hc]
  exact ⟨vp_in_nI (by omega) (by omega), nm_e hp⟩
theorem sk_emit0 {post : St2 → Prop} {u : St2} {x y : Int32} (hp : post u) (hy : y = 0) : wpX_emit post u x y := by
  obtain ⟨m, a1, a2, a3, a4, a5, a6, a7⟩ := u
  exact br_t hy hp
theorem sk_emit1 {post : St2 → Prop} {x y z : Int32} {a1 a2 a3 a4 a5 a6 a7 : Nat → Int32} (c m : Nat) (hc : c < 128) (hm : m < 36) (hy : ¬ y = 0) (hp : post (nI (m + 1), a1, a2, a3, a4, upd a5 m (nI c), upd a6 m y, a7)) (hx : x = nI c := by rfl) (hz : z = nI m := by rfl) : wpX_emit post (z, a1, a2, a3, a4, a5, a6, a7) x y := by
  subst hx hz
  unfold wpX_emit
  dsimp only
  rw [nI_clamp (by omega), sk_b8 c hc]
  exact br_f hy ⟨vp_in_nI hm (by omega), nm_e ⟨vp_in_nI hm (by omega), nm_e (nm_r (nI_1 m) hp)⟩⟩
theorem sk_clear {post : St2 → Prop} {m : Int32} {a1 a2 a3 a4 a5 a6 a7 : Nat → Int32} (H : ∀ b7 : Nat → Int32, (∀ n, n < 6 → b7 n = 0) → post (m, a1, a2, a3, a4, a5, a6, b7)) : wpX_clearWork post (m, a1, a2, a3, a4, a5, a6, a7) := by
  unfold wpX_clearWork
  dsimp only
  exact pk_loop (fun n i s => wX_clearWork_2 post m n (nI i) a1 a2 a3 a4 a5 a6 s) (fun i s => ∀ n, n < i → s n = 0) 6 0 a7 (by omega) (fun j hj => absurd hj (by omega))
    (fun n s h => pk_le 6 6 (fun _ => H s h) (fun z => absurd z (by omega)))
    (fun n i s hi h hw => pk_le 6 i (fun z => absurd z (by omega)) (fun _ => ⟨pk_in i 6 (by omega), nm_r (by rw [nI_clamp (by omega)]) (nm_r (nI_1 i) (hw (upd s i 0) (fun j hj => by
      by_cases e : j = i
      · rw [e, pk_us]
      · rw [pk_un e]
        exact h j (by omega))))⟩))
end
section
theorem sk_st33 {post : Int32 → St2 → Prop} {a1 a2 a3 a4 a5 a6 a7 : Nat → Int32} (t c : Nat) (ht : t < 5) (hc : c ≤ 36)
    (H : post (nI c) (nI c, a1, sk_cp (fun k => vp_nar .byte (a5 k)) a2 (t * 36) c, sk_cp a6 a3 (t * 36) c, a4, a5, a6, a7)) :
    ∃ n, wX_store_33 post (nI t) (nI c) n 0 a1 a2 a3 a4 a5 a6 a7 := by
  obtain ⟨n, hn⟩ := pk_loop (σ := Unit) (fun n i _ => wX_store_33 post (nI t) (nI c) n (nI i) a1 (sk_cp (fun k => vp_nar .byte (a5 k)) a2 (t * 36) i) (sk_cp a6 a3 (t * 36) i) a4 a5 a6 a7) (fun _ _ => True) c 0 () (by omega) trivial
    (fun n s h => pk_le c c (fun _ => H) (fun z => absurd z (by omega)))
    (fun n i s hi h hw => pk_le c i (fun z => absurd z (by omega)) (fun _ => by
      rw [sk_m36, nI_clamp (by omega), nI_clamp (by omega)]
      have q := hw () trivial
      rw [← sk_cp_s, ← sk_cp_s] at q
      exact ⟨pk_in i 36 (by omega), pk_in (t * 36 + i) 180 (by omega), nm_e ⟨pk_in i 36 (by omega), pk_in (t * 36 + i) 180 (by omega), nm_e (nm_r (nI_1 i) q)⟩⟩))
  rw [sk_cp_0, sk_cp_0] at hn
  exact ⟨n, hn⟩
theorem sk_store {post : Int32 → St2 → Prop} {x y : Int32} {a1 a2 a3 a4 a5 a6 a7 : Nat → Int32} (t c : Nat) (ht : t < 5) (hc : c ≤ 36)
    (H : post (nI c) (nI c, sk_cp (fun k => vp_nar .byte (a4 k)) a1 (t * 7) 7, sk_cp (fun k => vp_nar .byte (a5 k)) a2 (t * 36) c, sk_cp a6 a3 (t * 36) c, a4, a5, a6, a7)) (hx : x = nI t := by rfl) (hy : y = nI c := by rfl) :
    wpX_store post (y, a1, a2, a3, a4, a5, a6, a7) x := by
  subst hx hy
  unfold wpX_store
  dsimp only
  obtain ⟨n, hn⟩ := pk_loop (σ := Unit) (fun n i _ => wX_store_2 post (nI t) (nI c) n (nI i) (sk_cp (fun k => vp_nar .byte (a4 k)) a1 (t * 7) i) a2 a3 a4 a5 a6 a7) (fun _ _ => True) 7 0 () (by omega) trivial
    (fun n s h => pk_lt 6 7 (fun _ => sk_st33 t c ht hc H) (fun z => absurd z (by omega)))
    (fun n i s hi h hw => pk_lt 6 i (fun z => absurd z (by omega)) (fun _ => by
      rw [sk_m7, nI_clamp (by omega), nI_clamp (by omega)]
      have q := hw () trivial
      rw [← sk_cp_s] at q
      exact ⟨pk_in i 7 (by omega), pk_in (t * 7 + i) 35 (by omega), nm_e (nm_r (nI_1 i) q)⟩))
  rw [sk_cp_0] at hn
  exact ⟨n, hn⟩
theorem sk_keep_cp {t c : Nat} (hc : c ≤ 36) (a1 a2 a3 f1 f2 f3 : Nat → Int32) : sk_keep t a1 a2 a3 (sk_cp f1 a1 (t * 7) 7) (sk_cp f2 a2 (t * 36) c) (sk_cp f3 a3 (t * 36) c) :=
  ⟨fun n h => sk_cp_out h, fun n h => ⟨sk_cp_out (by omega), sk_cp_out (by omega)⟩⟩
/-- the matrix that is being made, ahead of row r: it holds v at (i, j) alone -/
def sk_mk (i j : Nat) (v : Int32) (r : Nat) (a4 a5 a6 : Nat → Int32) : Prop :=
  (∀ n, n ≤ r → a4 n = nI (sk_on i v n)) ∧ (i < r → v ≠ 0 → a5 0 = nI j ∧ a6 0 = v)
theorem sk_store1 {post : Int32 → St2 → Prop} {x : Int32} {a1 a2 a3 a4 a5 a6 a7 : Nat → Int32} (t i j : Nat) (v : Int32) (ht : t < 5) (hi : i < 6) (hj : j < 6) (hk : sk_mk i j v 6 a4 a5 a6)
    (H : ∀ b1 b2 b3 : Nat → Int32, sk_slot t i j v b1 b2 b3 → sk_keep t a1 a2 a3 b1 b2 b3 → post (nI (sk_on i v 6)) (nI (sk_on i v 6), b1, b2, b3, a4, a5, a6, a7)) (hx : x = nI t := by rfl) :
    wpX_store post (nI (sk_on i v 6), a1, a2, a3, a4, a5, a6, a7) x := by
  have hl := sk_on_le i v 6
  refine sk_store t (sk_on i v 6) ht (by omega) (H _ _ _ ⟨fun n hn => ?_, fun hv => ?_⟩ (sk_keep_cp (by omega) _ _ _ _ _ _)) hx
  · rw [sk_cp_in (by omega), hk.1 n hn]
    have hl' := sk_on_le i v n
    exact sk_nb (by omega)
  · have q := hk.2 hi hv
    have e := sk_on_hi (n := 6) hi hv
    have z1 : sk_cp (fun k => vp_nar .byte (a5 k)) a2 (t * 36) (sk_on i v 6) (t * 36 + 0) = vp_nar .byte (a5 0) := sk_cp_in (by omega)
    have z2 : sk_cp a6 a3 (t * 36) (sk_on i v 6) (t * 36 + 0) = a6 0 := sk_cp_in (by omega)
    rw [Nat.add_zero] at z1 z2
    rw [z1, z2, q.1, q.2]
    exact ⟨sk_nb (by omega), rfl⟩
/-- what emitWork does to a list's array -/
def sk_ap (a : Nat → Int32) (m : Nat) (x : Int32) (k : Nat) : Nat → Int32 := if k = 0 then a else upd a m x
theorem sk_emitWork {post : St2 → Prop} {x : Int32} {a1 a2 a3 a4 a5 a6 a7 : Nat → Int32} (c m : Nat) (v : Int32) (hc : c < 6) (hm : m < 36) (hw : ∀ n, n < 6 → a7 n = if n = c then v else 0)
    (H : post (nI (m + sk_on c v 6), a1, a2, a3, a4, sk_ap a5 m (nI c) (sk_on c v 6), sk_ap a6 m v (sk_on c v 6), a7)) (hx : x = nI m := by rfl) :
    wpX_emitWork post (x, a1, a2, a3, a4, a5, a6, a7) := by
  subst hx
  unfold wpX_emitWork
  dsimp only
  obtain ⟨n, hn⟩ := pk_loop (σ := Unit) (fun n i _ => wX_emitWork_2 post n (nI i) (nI (m + sk_on c v i)) a1 a2 a3 a4 (sk_ap a5 m (nI c) (sk_on c v i)) (sk_ap a6 m v (sk_on c v i)) a7) (fun _ _ => True) 6 0 () (by omega) trivial
    (fun n s h => pk_le 6 6 (fun _ => H) (fun z => absurd z (by omega)))
    (fun n i s hi h hw' => pk_le 6 i (fun z => absurd z (by omega)) (fun _ => by
      have q := hw' () trivial
      refine ⟨pk_in i 6 hi, ?_⟩
      rw [nI_clamp (by omega), hw i hi]
      by_cases e : i = c
      · rw [if_pos e]
        by_cases hv : v = 0
        · subst hv
          rw [sk_on_z] at q ⊢
          exact sk_emit0 (nm_r (nI_1 i) q) rfl
        · rw [sk_on_hi (by omega) hv] at q
          rw [sk_on_lo v (by omega)]
          subst e
          exact sk_emit1 i m (by omega) hm hv (nm_r (nI_1 i) q)
      · rw [if_neg e]
        rw [sk_on_ne v (by omega)] at q
        exact sk_emit0 (nm_r (nI_1 i) q) rfl))
  rw [sk_on_0] at hn
  exact ⟨n, hn⟩
/-- a row's end: what stands in work is emitted, and the row closed -/
theorem sk_row {P post : St2 → Prop} {a1 a2 a3 a4 a5 a6 a7 : Nat → Int32} (i j r : Nat) (v : Int32) (hj : j < 6) (hr : r < 6) (hk : sk_mk i j v r a4 a5 a6) (hw : ∀ n, n < 6 → a7 n = if n = j ∧ r = i then v else 0)
    (hP : ∀ (m : Int32) (b1 b2 b3 b4 b5 b6 b7 : Nat → Int32), wpX_endRow post (m, b1, b2, b3, b4, b5, b6, b7) (nI r) → P (m, b1, b2, b3, b4, b5, b6, b7))
    (H : ∀ b4 b5 b6 : Nat → Int32, sk_mk i j v (r + 1) b4 b5 b6 → post (nI (sk_on i v (r + 1)), a1, a2, a3, b4, b5, b6, a7)) :
    wpX_emitWork P (nI (sk_on i v r), a1, a2, a3, a4, a5, a6, a7) := by
  have hl := sk_on_le i v r
  have hl' := sk_on_le i v (r + 1)
  by_cases e : r = i
  · subst e
    have w0 : sk_on r v r = 0 := sk_on_lo v (Nat.le_refl r)
    have w1 : sk_on j v 6 = sk_on r v (r + 1) := by
      unfold sk_on
      by_cases hv : v ≠ 0
      · rw [if_pos ⟨by omega, hv⟩, if_pos ⟨by omega, hv⟩]
      · rw [if_neg (fun z => hv z.2), if_neg (fun z => hv z.2)]
    rw [w0]
    refine sk_emitWork j 0 v hj (by omega) (fun n hn => by rw [hw n hn]; by_cases z : n = j <;> simp [z]) ?_
    rw [Nat.zero_add, w1]
    refine hP _ _ _ _ _ _ _ _ ?_
    refine sk_endRow (sk_on r v (r + 1)) r (by omega) hr (H _ _ _ ⟨fun n hn => ?_, fun _ hv => ?_⟩)
    · by_cases z : n = r + 1
      · rw [z, pk_us]
      · rw [pk_un z]
        exact hk.1 n (by omega)
    · rw [sk_on_hi (by omega) hv]
      exact ⟨(pk_us : upd a5 0 (nI j) 0 = nI j), (pk_us : upd a6 0 v 0 = v)⟩
  · refine sk_emitWork j (sk_on i v r) 0 hj (by omega) (fun n hn => by rw [hw n hn]; simp [e]) ?_
    rw [sk_on_z, Nat.add_zero]
    have q : sk_on i v (r + 1) = sk_on i v r := sk_on_ne v (by omega)
    refine hP _ _ _ _ _ _ _ _ ?_
    refine sk_endRow (sk_on i v r) r (by omega) hr ?_
    rw [← q]
    refine H _ _ _ ⟨fun n hn => ?_, fun hi hv => hk.2 (by omega) hv⟩
    by_cases z : n = r + 1
    · rw [z, pk_us]
    · rw [pk_un z]
      exact hk.1 n (by omega)
end
section
theorem sk_mk_0 (i j : Nat) (v : Int32) (a4 a5 a6 : Nat → Int32) : sk_mk i j v 0 (upd a4 0 0) a5 a6 := by
  refine ⟨fun n hn => ?_, fun h => absurd h (by omega)⟩
  rw [show n = 0 by omega, pk_us, sk_on_0]
  rfl
theorem sk_put {post : Int32 → St2 → Prop} {x y z v m : Int32} {a1 a2 a3 a4 a5 a6 a7 : Nat → Int32} (s i j : Nat) (hs : s < 5) (hi : i < 6) (hj : j < 6) (h0 : ∀ n, n ≤ 6 → a1 (s * 7 + n) = nI 0)
    (H : ∀ b1 b2 b3 b4 b5 b6 b7 : Nat → Int32, sk_slot s i j v b1 b2 b3 → sk_keep s a1 a2 a3 b1 b2 b3 → post 1 (nI (sk_on i v 6), b1, b2, b3, b4, b5, b6, b7)) (hx : x = nI s := by rfl) (hy : y = nI i := by rfl) (hz : z = nI j := by rfl) :
    wpX_put post (m, a1, a2, a3, a4, a5, a6, a7) x y z v := by
  subst hx hy hz
  unfold wpX_put
  dsimp only
  refine sk_isSlot s hs (br_f sk_one (sk_isIndex i hi (br_f sk_one (sk_isIndex j hj (br_f sk_one ?_)))))
  unfold wpX_begin
  dsimp only
  refine nm_e ?_
  have L := pk_loop (fun n r (t : (Nat → Int32) × (Nat → Int32) × (Nat → Int32) × (Nat → Int32)) => wX_put_30 post (nI s) (nI i) (nI j) v n (nI r) (nI (sk_on i v r)) a1 a2 a3 t.1 t.2.1 t.2.2.1 t.2.2.2) (fun r t => sk_mk i j v r t.1 t.2.1 t.2.2.1) 6 0 (upd a4 0 0, a5, a6, a7) (by omega) (sk_mk_0 i j v a4 a5 a6)
    (fun n t h => pk_le 6 6 (fun _ => sk_store1 s i j v hs hi hj h (fun b1 b2 b3 q k => H b1 b2 b3 _ _ _ _ q k)) (fun z => absurd z (by omega)))
    (fun n r t hr h hw => pk_le 6 r (fun z => absurd z (by omega)) (fun _ => sk_clear (fun b7 hb => sk_from s r 0 hs hr (h0 r (by omega)) ⟨0 + 1, by
      unfold wX_put_50
      refine sk_upTo s r 0 hs hr (h0 (r + 1) (by omega)) (br_t (nI_le (Nat.le_refl _) (by omega)) (pk_eq r i (fun e => ⟨pk_in j 6 hj, nm_r (by rw [nI_clamp (by omega)]) ?_⟩) (fun e => ?_)))
      · unfold wX_put_101
        exact sk_row i j r v hj hr h (fun n hn => by
          by_cases z : n = j
          · rw [z, pk_us, if_pos ⟨rfl, e⟩]
          · rw [pk_un z, if_neg (fun q => z q.1)]
            exact hb n hn) (fun _ _ _ _ _ _ _ _ h => h) (fun b4 b5 b6 k => nm_r (nI_1 r) (hw (b4, b5, b6, upd b7 j v) k))
      · unfold wX_put_101
        exact sk_row i j r v hj hr h (fun n hn => by
          rw [if_neg (fun q => e q.2)]
          exact hb n hn) (fun _ _ _ _ _ _ _ _ h => h) (fun b4 b5 b6 k => nm_r (nI_1 r) (hw (b4, b5, b6, b7) k))⟩)))
  rw [sk_on_0] at L
  exact L
end
section
/-- the outer loop's end -/
theorem sk_rpE {post : Int32 → Prop} {m x5 x6 : Int32} {a1 a2 a3 a4 a5 a6 a7 : Nat → Int32} (n i k p : Nat) (hi : i < 6) (hp : p < 36) (U : a1 (0 * 7 + (i + 1)) = nI p) (H : post x5) :
    wX_rowsProduct_51 post 0 (nI i) 1 (nI k) m a1 a2 a3 a4 a5 a6 a7 (n + 1) x5 x6 (nI (0 * 36 + p)) := by
  unfold wX_rowsProduct_51
  exact sk_upTo 0 i p (by omega) hi U (br_t (nI_le (Nat.le_refl _) (by omega)) H)
/-- the inner loop at the end of b's row -/
theorem sk_rp62 {post : Int32 → Prop} {J : Int32 → Int32 → Int32 → Prop} {m x5 : Int32} {a1 a2 a3 a4 a5 a6 a7 : Nat → Int32} (n i k p : Nat) (hk : k < 6) (hp : p < 36) (U : a1 (1 * 7 + (k + 1)) = nI p) (H : J x5 (nI (1 * 36 + p)) (nI 1)) :
    wX_rowsProduct_62 post J 0 (nI i) 1 (nI k) x5 (nI 0) m a1 a2 a3 a4 a5 a6 a7 (n + 1) (nI (1 * 36 + p)) := by
  unfold wX_rowsProduct_62
  refine sk_upTo 1 k p (by omega) hk U (br_t (nI_le (Nat.le_refl _) (by omega)) ?_)
  unfold wX_rowsProduct_97
  exact sk_upTo 1 k p (by omega) hk U (br_t (nI_le (Nat.le_refl _) (by omega)) (nm_r (nI_1 0) H))
/-- the inner loop where both rows hold an entry -/
theorem sk_rpAB {post : Int32 → Prop} {J : Int32 → Int32 → Int32 → Prop} {m : Int32} {a1 a2 a3 a4 a5 a6 a7 : Nat → Int32} (n i j k l : Nat) (v w : Int32) (hk : k < 6) (hj : j < 6) (hl : l < 6) (U : a1 (1 * 7 + (k + 1)) = nI 1) (A2 : a2 0 = nI j) (A3 : a3 0 = v) (B2 : a2 36 = nI l) (B3 : a3 36 = w)
    (H : ∀ x y : Int32, y = (if j = l then v * w else 0) → J y x (nI 1)) :
    wX_rowsProduct_62 post J 0 (nI i) 1 (nI k) 0 (nI 0) m a1 a2 a3 a4 a5 a6 a7 (n + 2) (nI 36) := by
  unfold wX_rowsProduct_62
  refine sk_upTo 1 k 1 (by omega) hk U (br_f (nI_ge (by omega) (by omega)) ⟨pk_in 36 180 (by omega), pk_in 0 180 (by omega), ?_⟩)
  rw [nI_clamp (show 0 < 2 ^ 31 by omega), nI_clamp (show 36 < 2 ^ 31 by omega), A2, B2]
  refine pk_le j l (fun e => ?_) (fun e => ?_)
  · unfold wX_rowsProduct_97
    refine sk_upTo 1 k 1 (by omega) hk U (br_f (nI_ge (by omega) (by omega)) ⟨pk_in 36 180 (by omega), pk_in 0 180 (by omega), ?_⟩)
    rw [nI_clamp (show 0 < 2 ^ 31 by omega), nI_clamp (show 36 < 2 ^ 31 by omega), A2, B2, A3, B3]
    exact pk_eq l j (fun f => ⟨pk_in 0 180 (by omega), pk_in 36 180 (by omega), nm_r (Int32.zero_add _) (nm_r (nI_1 0) (H _ _ (by rw [if_pos f.symm])))⟩) (fun f => nm_r (nI_1 0) (H _ _ (by rw [if_neg (fun g => f g.symm)])))
  · refine nm_r (nI_1 36) ?_
    exact sk_rp62 n i k 1 hk (by omega) U (H _ _ (by rw [if_neg (by omega)]))
/-- what rowsProduct answers on two matrices of one entry each -/
theorem sk_rowsProduct {post : Int32 → Prop} {m : Int32} {a1 a2 a3 a4 a5 a6 a7 : Nat → Int32} (i j k l : Nat) (v w : Int32) (hi : i < 6) (hj : j < 6) (hk : k < 6) (hl : l < 6) (A : sk_slot 0 i j v a1 a2 a3) (B : sk_slot 1 k l w a1 a2 a3)
    (H : post (if j = l then v * w else 0)) : wpX_rowsProduct post (m, a1, a2, a3, a4, a5, a6, a7) 0 (nI i) 1 (nI k) := by
  unfold wpX_rowsProduct
  dsimp only
  refine sk_isSlot 0 (by omega) (br_f sk_one (sk_isIndex i hi (br_f sk_one (sk_isSlot 1 (by omega) (br_f sk_one (sk_isIndex k hk (br_f sk_one ?_)))))))
  refine sk_from 1 k 0 (by omega) hk ((B.1 k (by omega)).trans (by rw [sk_on_lo w (Nat.le_refl k)])) ?_
  refine sk_from 0 i 0 (by omega) hi ((A.1 i (by omega)).trans (by rw [sk_on_lo v (Nat.le_refl i)])) ?_
  by_cases hv : v = 0
  · have z : (if j = l then v * w else 0) = 0 := by
      rw [hv, Int32.zero_mul]
      split <;> rfl
    rw [z] at H
    exact ⟨0 + 1, sk_rpE 0 i k 0 hi (by omega) ((A.1 (i + 1) (by omega)).trans (by rw [hv, sk_on_z])) H⟩
  · have UA : a1 (0 * 7 + (i + 1)) = nI 1 := (A.1 (i + 1) (by omega)).trans (by rw [sk_on_hi (by omega) hv])
    obtain ⟨A2, A3⟩ := A.2 hv
    refine ⟨0 + 2, ?_⟩
    unfold wX_rowsProduct_51
    refine sk_upTo 0 i 1 (by omega) hi UA (br_f (nI_ge (by omega) (by omega)) ?_)
    by_cases hw : w = 0
    · have z : (if j = l then v * w else 0) = 0 := by
        rw [hw, Int32.mul_zero]
        split <;> rfl
      rw [z] at H
      exact ⟨0 + 1, sk_rp62 0 i k 0 hk (by omega) ((B.1 (k + 1) (by omega)).trans (by rw [hw, sk_on_z])) (sk_rpE 0 i k 1 hi (by omega) UA H)⟩
    · have UB : a1 (1 * 7 + (k + 1)) = nI 1 := (B.1 (k + 1) (by omega)).trans (by rw [sk_on_hi (by omega) hw])
      obtain ⟨B2, B3⟩ := B.2 hw
      exact ⟨0 + 2, sk_rpAB 0 i j k l v w hk hj hl UB A2 A3 B2 B3 (fun x y e => sk_rpE 0 i k 1 hi (by omega) UA (by rw [e]; exact H))⟩
end
section
/-- how many entries row r holds of a matrix that holds v at row i alone -/
def sk_at (i : Nat) (v : Int32) (r : Nat) : Nat := if i = r ∧ v ≠ 0 then 1 else 0
theorem sk_at_1 {i r : Nat} {v : Int32} (h : i = r ∧ v ≠ 0) : sk_at i v r = 1 := by
  unfold sk_at
  rw [if_pos h]
theorem sk_at_0 {i r : Nat} {v : Int32} (h : ¬ (i = r ∧ v ≠ 0)) : sk_at i v r = 0 := by
  unfold sk_at
  rw [if_neg h]
theorem sk_on_s (i : Nat) (v : Int32) (r : Nat) : sk_on i v (r + 1) = sk_on i v r + sk_at i v r := by
  by_cases h : i = r ∧ v ≠ 0
  · rw [sk_at_1 h, sk_on_hi (by omega) h.2, sk_on_lo v (by omega)]
  · rw [sk_at_0 h, Nat.add_zero]
    by_cases e : i = r
    · have hv : v = 0 := Classical.byContradiction (fun z => h ⟨e, z⟩)
      rw [hv, sk_on_z, sk_on_z]
    · exact sk_on_ne v e
/-- how many entries stand ahead of row r in the sum -/
def sk_ct (i j : Nat) (v : Int32) (k l : Nat) (w : Int32) (r : Nat) : Nat := if i = k ∧ j = l then sk_on i (v + w) r else sk_on i v r + sk_on k w r
/-- how many entries row r of the sum holds -/
def sk_rc (i j : Nat) (v : Int32) (k l : Nat) (w : Int32) (r : Nat) : Nat := if i = k ∧ j = l then sk_at i (v + w) r else sk_at i v r + sk_at k w r
theorem sk_ct_s (i j : Nat) (v : Int32) (k l : Nat) (w : Int32) (r : Nat) : sk_ct i j v k l w (r + 1) = sk_ct i j v k l w r + sk_rc i j v k l w r := by
  unfold sk_ct sk_rc
  by_cases h : i = k ∧ j = l
  · rw [if_pos h, if_pos h, if_pos h, sk_on_s]
  · rw [if_neg h, if_neg h, if_neg h, sk_on_s, sk_on_s]
    omega
theorem sk_ct_0 (i j : Nat) (v : Int32) (k l : Nat) (w : Int32) : sk_ct i j v k l w 0 = 0 := by
  unfold sk_ct
  rw [sk_on_0, sk_on_0, sk_on_0]
  split <;> rfl
theorem sk_ct_le (i j : Nat) (v : Int32) (k l : Nat) (w : Int32) (r : Nat) : sk_ct i j v k l w r ≤ 2 := by
  unfold sk_ct
  have h1 := sk_on_le i (v + w) r
  have h2 := sk_on_le i v r
  have h3 := sk_on_le k w r
  split <;> omega
theorem sk_6 : ∀ j, j < 6 → ¬ (6 : Int32) = nI j := by decide +kernel
theorem sk_mgE {post : St2 → Prop} {m : Int32} {a1 a2 a3 a4 a5 a6 a7 : Nat → Int32} (n p q : Nat) (hp : p < 2 ^ 31) (hq : q < 2 ^ 31) (H : post (m, a1, a2, a3, a4, a5, a6, a7)) : wX_mergeRow_32 post (nI p) (nI q) (n + 1) (nI p) (nI q) m a1 a2 a3 a4 a5 a6 a7 :=
  br_f (nI_nlt (Nat.le_refl p) hp) (br_t (nI_le (Nat.le_refl q) hq) H)
theorem sk_mgA {post : St2 → Prop} {a1 a2 a3 a4 a5 a6 a7 : Nat → Int32} (n c j q : Nat) (v : Int32) (hv : ¬ v = 0) (hj : j < 6) (hc : c < 36) (hq : q < 2 ^ 31) (A2 : a2 0 = nI j) (A3 : a3 0 = v) (H : post (nI (c + 1), a1, a2, a3, a4, upd a5 c (nI j), upd a6 c v, a7)) :
    wX_mergeRow_32 post (nI 1) (nI q) (n + 2) (nI 0) (nI q) (nI c) a1 a2 a3 a4 a5 a6 a7 := by
  refine br_t (nI_lt (by omega) (by omega)) ?_
  refine br_f (nI_ge (by omega) (by omega)) ⟨pk_in 0 180 (by omega), ?_⟩
  rw [nI_clamp (show 0 < 2 ^ 31 by omega), A2]
  refine br_t (nI_le (Nat.le_refl q) hq) ?_
  refine br_f (nI_ge (b := 6) hj (by decide)) ?_
  refine br_t rfl ⟨pk_in 0 180 (by omega), ?_⟩
  rw [nI_clamp (show 0 < 2 ^ 31 by omega), A3]
  refine nm_r (Int32.zero_add v) (nm_r (nI_1 0) ?_)
  refine br_f (sk_6 j hj) ?_
  unfold wX_mergeRow_151
  exact sk_emit1 j c (by omega) hc hv (sk_mgE n 1 q (by omega) hq H)
theorem sk_mgB {post : St2 → Prop} {a1 a2 a3 a4 a5 a6 a7 : Nat → Int32} (n c l p : Nat) (w : Int32) (hw : ¬ w = 0) (hl : l < 6) (hc : c < 36) (hp : p < 2 ^ 31) (B2 : a2 36 = nI l) (B3 : a3 36 = w) (H : post (nI (c + 1), a1, a2, a3, a4, upd a5 c (nI l), upd a6 c w, a7)) :
    wX_mergeRow_32 post (nI p) (nI 37) (n + 2) (nI p) (nI 36) (nI c) a1 a2 a3 a4 a5 a6 a7 := by
  refine br_f (nI_nlt (Nat.le_refl p) hp) (br_f (nI_ge (by omega) (by omega)) ?_)
  refine br_t (nI_le (Nat.le_refl p) hp) ?_
  refine br_f (nI_ge (by omega) (by omega)) ⟨pk_in 36 180 (by omega), ?_⟩
  rw [nI_clamp (show 36 < 2 ^ 31 by omega), B2]
  refine br_t (nI_le (b := 6) (by omega) (by decide)) ?_
  refine br_f (sk_6 l hl) ?_
  refine br_t rfl ⟨pk_in 36 180 (by omega), ?_⟩
  rw [nI_clamp (show 36 < 2 ^ 31 by omega), B3]
  refine nm_r (Int32.zero_add w) (nm_r (nI_1 36) ?_)
  unfold wX_mergeRow_151
  exact sk_emit1 l c (by omega) hc hw (sk_mgE n p 37 hp (by omega) H)
/-- both rows hold an entry -/
theorem sk_mgAB {post : St2 → Prop} {a1 a2 a3 a4 a5 a6 a7 : Nat → Int32} (n c j l : Nat) (v w : Int32) (hv : ¬ v = 0) (hw : ¬ w = 0) (hj : j < 6) (hl : l < 6) (hc : c < 30) (A2 : a2 0 = nI j) (A3 : a3 0 = v) (B2 : a2 36 = nI l) (B3 : a3 36 = w)
    (H : ∀ (d : Nat) (b5 b6 : Nat → Int32), d = (if j = l then (if v + w = 0 then 0 else 1) else 2) → post (nI (c + d), a1, a2, a3, a4, b5, b6, a7)) :
    wX_mergeRow_32 post (nI 1) (nI 37) (n + 3) (nI 0) (nI 36) (nI c) a1 a2 a3 a4 a5 a6 a7 := by
  refine br_t (nI_lt (by omega) (by omega)) ?_
  refine br_f (nI_ge (by omega) (by omega)) ⟨pk_in 0 180 (by omega), ?_⟩
  rw [nI_clamp (show 0 < 2 ^ 31 by omega), A2]
  refine br_f (nI_ge (by omega) (by omega)) ⟨pk_in 36 180 (by omega), ?_⟩
  rw [nI_clamp (show 36 < 2 ^ 31 by omega), B2]
  refine pk_le l j (fun e => ?_) (fun e => ?_)
  · refine pk_eq j l (fun f => ⟨pk_in 0 180 (by omega), ?_⟩) (fun f => ?_)
    · rw [nI_clamp (show 0 < 2 ^ 31 by omega), A3]
      refine nm_r (Int32.zero_add v) (nm_r (nI_1 0) ?_)
      refine br_t rfl ⟨pk_in 36 180 (by omega), ?_⟩
      rw [nI_clamp (show 36 < 2 ^ 31 by omega), B3]
      refine nm_e (nm_r (nI_1 36) ?_)
      unfold wX_mergeRow_151
      by_cases z : v + w = 0
      · exact sk_emit0 (sk_mgE (n + 1) 1 37 (by omega) (by omega) (H 0 _ _ (by rw [if_pos f, if_pos z]))) z
      · exact sk_emit1 l c (by omega) (by omega) z (sk_mgE (n + 1) 1 37 (by omega) (by omega) (H 1 _ _ (by rw [if_pos f, if_neg z])))
    · refine br_t rfl ⟨pk_in 36 180 (by omega), ?_⟩
      rw [nI_clamp (show 36 < 2 ^ 31 by omega), B3]
      refine nm_r (Int32.zero_add w) (nm_r (nI_1 36) ?_)
      unfold wX_mergeRow_151
      exact sk_emit1 l c (by omega) (by omega) hw (sk_mgA n (c + 1) j 37 v hv hj (by omega) (by omega) A2 A3 (H 2 _ _ (by rw [if_neg f])))
  · refine br_t rfl ⟨pk_in 0 180 (by omega), ?_⟩
    rw [nI_clamp (show 0 < 2 ^ 31 by omega), A3]
    refine nm_r (Int32.zero_add v) (nm_r (nI_1 0) ?_)
    refine pk_eq l j (fun f => absurd f (by omega)) (fun f => ?_)
    unfold wX_mergeRow_151
    exact sk_emit1 j c (by omega) (by omega) hv (sk_mgB n (c + 1) l 1 w hw hl (by omega) (by omega) B2 B3 (H 2 _ _ (by rw [if_neg (by omega)])))
theorem sk_mergeRow {post : St2 → Prop} {x : Int32} {a1 a2 a3 a4 a5 a6 a7 : Nat → Int32} (c r i j k l : Nat) (v w : Int32) (hr : r < 6) (hj : j < 6) (hl : l < 6) (hc : c < 30) (A : sk_slot 0 i j v a1 a2 a3) (B : sk_slot 1 k l w a1 a2 a3)
    (H : ∀ (d : Nat) (b5 b6 : Nat → Int32), d = c + sk_rc i j v k l w r → post (nI d, a1, a2, a3, a4, b5, b6, a7)) (hx : x = nI r := by rfl) :
    wpX_mergeRow post (nI c, a1, a2, a3, a4, a5, a6, a7) 0 1 x := by
  subst hx
  unfold wpX_mergeRow
  dsimp only
  have l1 := sk_on_le i v r
  have l2 := sk_on_le k w r
  refine sk_from 0 r _ (by omega) hr (A.1 r (by omega)) (sk_from 1 r _ (by omega) hr (B.1 r (by omega)) (sk_upTo 0 r _ (by omega) hr (A.1 (r + 1) (by omega)) (sk_upTo 1 r _ (by omega) hr (B.1 (r + 1) (by omega)) ?_)))
  by_cases PA : i = r ∧ v ≠ 0
  · obtain ⟨A2, A3⟩ := A.2 PA.2
    rw [sk_on_lo v (show r ≤ i by omega), sk_on_hi (show i < r + 1 by omega) PA.2]
    by_cases PB : k = r ∧ w ≠ 0
    · obtain ⟨B2, B3⟩ := B.2 PB.2
      rw [sk_on_lo w (show r ≤ k by omega), sk_on_hi (show k < r + 1 by omega) PB.2]
      refine ⟨3, sk_mgAB 0 c j l v w PA.2 PB.2 hj hl hc A2 A3 B2 B3 (fun d b5 b6 hd => H _ b5 b6 ?_)⟩
      rw [hd]
      unfold sk_rc
      by_cases e : j = l
      · rw [if_pos e, if_pos (show i = k ∧ j = l from ⟨by omega, e⟩)]
        by_cases z : v + w = 0
        · rw [if_pos z, sk_at_0 (fun q => q.2 z)]
        · rw [if_neg z, sk_at_1 ⟨PA.1, z⟩]
      · rw [if_neg e, if_neg (fun q => e q.2), sk_at_1 PA, sk_at_1 PB]
    · have ew : sk_on k w (r + 1) = sk_on k w r := by rw [sk_on_s, sk_at_0 PB]; rfl
      rw [ew]
      refine ⟨2, sk_mgA 0 c j (1 * 36 + sk_on k w r) v PA.2 hj (by omega) (by omega) A2 A3 (H _ _ _ ?_)⟩
      unfold sk_rc
      by_cases e : i = k ∧ j = l
      · have hw : w = 0 := Classical.byContradiction (fun z => PB ⟨by omega, z⟩)
        rw [if_pos e, hw, Int32.add_zero, sk_at_1 PA]
      · rw [if_neg e, sk_at_1 PA, sk_at_0 PB]
  · have ev : sk_on i v (r + 1) = sk_on i v r := by rw [sk_on_s, sk_at_0 PA]; rfl
    rw [ev]
    by_cases PB : k = r ∧ w ≠ 0
    · obtain ⟨B2, B3⟩ := B.2 PB.2
      rw [sk_on_lo w (show r ≤ k by omega), sk_on_hi (show k < r + 1 by omega) PB.2]
      refine ⟨2, sk_mgB 0 c l (0 * 36 + sk_on i v r) w PB.2 hl (by omega) (by omega) B2 B3 (H _ _ _ ?_)⟩
      unfold sk_rc
      by_cases e : i = k ∧ j = l
      · have hv : v = 0 := Classical.byContradiction (fun z => PA ⟨by omega, z⟩)
        rw [if_pos e, hv, Int32.zero_add, sk_at_1 ⟨by omega, PB.2⟩]
      · rw [if_neg e, sk_at_0 PA, sk_at_1 PB]
    · have ew : sk_on k w (r + 1) = sk_on k w r := by rw [sk_on_s, sk_at_0 PB]; rfl
      rw [ew]
      refine ⟨1, sk_mgE 0 _ _ (by omega) (by omega) (H _ _ _ ?_)⟩
      unfold sk_rc
      by_cases e : i = k ∧ j = l
      · rw [if_pos e, sk_at_0 (fun q => ?_)]
        · rfl
        · have hv : v = 0 := Classical.byContradiction (fun z => PA ⟨q.1, z⟩)
          have hw : w = 0 := Classical.byContradiction (fun z => PB ⟨by omega, z⟩)
          exact q.2 (by rw [hv, hw]; rfl)
      · rw [if_neg e, sk_at_0 PA, sk_at_0 PB]
        rfl
theorem sk_add {post : Int32 → St2 → Prop} {m : Int32} {a1 a2 a3 a4 a5 a6 a7 : Nat → Int32} (i j k l : Nat) (v w : Int32) (hj : j < 6) (hl : l < 6) (A : sk_slot 0 i j v a1 a2 a3) (B : sk_slot 1 k l w a1 a2 a3)
    (H : ∀ b1 b2 b3 b4 b5 b6 b7 : Nat → Int32, sk_keep 2 a1 a2 a3 b1 b2 b3 → post (nI (sk_ct i j v k l w 6)) (nI (sk_ct i j v k l w 6), b1, b2, b3, b4, b5, b6, b7)) :
    wpX_add post (m, a1, a2, a3, a4, a5, a6, a7) 2 0 1 := by
  unfold wpX_add
  dsimp only
  refine sk_isSlot 2 (by omega) (br_f sk_one (sk_isSlot 0 (by omega) (br_f sk_one (sk_isSlot 1 (by omega) (br_f sk_one ?_)))))
  unfold wpX_begin
  dsimp only
  refine nm_e ?_
  have L := pk_loop (fun n r (t : (Nat → Int32) × (Nat → Int32) × (Nat → Int32)) => wX_add_30 post 2 0 1 n (nI r) (nI (sk_ct i j v k l w r)) a1 a2 a3 t.1 t.2.1 t.2.2 a7) (fun _ _ => True) 6 0 (upd a4 0 0, a5, a6) (by omega) trivial
    (fun n t h => pk_le 6 6 (fun _ => by
      have g := sk_ct_le i j v k l w 6
      exact sk_store 2 (sk_ct i j v k l w 6) (by omega) (by omega) (H _ _ _ _ _ _ _ (sk_keep_cp (by omega) _ _ _ _ _ _))) (fun z => absurd z (by omega)))
    (fun n r t hr h hw => pk_le 6 r (fun z => absurd z (by omega)) (fun _ => by
      have g := sk_ct_le i j v k l w r
      have g' := sk_ct_le i j v k l w (r + 1)
      refine sk_mergeRow (sk_ct i j v k l w r) r i j k l v w hr hj hl (by omega) A B (fun d b5 b6 hd => ?_)
      rw [← sk_ct_s] at hd
      subst hd
      exact sk_endRow _ r (by omega) hr (nm_r (nI_1 r) (hw (upd t.1 (r + 1) (nI (sk_ct i j v k l w (r + 1))), b5, b6) trivial))))
  rw [sk_ct_0] at L
  exact L
end
section
/-- the one entry of the product -/
def sk_pr (j k : Nat) (v w : Int32) : Int32 := if j = k then v * w else 0
/-- the outer loop's end -/
theorem sk_p12 {post : St2 → Prop} {m : Int32} {a1 a2 a3 a4 a5 a6 a7 : Nat → Int32} (n r p : Nat) (hr : r < 6) (hp : p < 36) (U : a1 (0 * 7 + (r + 1)) = nI p) (H : post (m, a1, a2, a3, a4, a5, a6, a7)) :
    wX_productRow_12 post 0 1 (nI r) m (n + 1) (nI (0 * 36 + p)) a1 a2 a3 a4 a5 a6 a7 := by
  unfold wX_productRow_12
  exact sk_upTo 0 r p (by omega) hr U (br_t (nI_le (Nat.le_refl _) (by omega)) H)
/-- the inner loop's end -/
theorem sk_p41 {post : St2 → Prop} {J : Int32 → (Nat → Int32) → (Nat → Int32) → (Nat → Int32) → (Nat → Int32) → (Nat → Int32) → (Nat → Int32) → (Nat → Int32) → Prop} {m : Int32} {a1 a2 a3 a4 a5 a6 a7 : Nat → Int32} (n r j p : Nat) (hj : j < 6) (hp : p < 36) (U : a1 (1 * 7 + (j + 1)) = nI p) (H : J (nI 1) a1 a2 a3 a4 a5 a6 a7) :
    wX_productRow_41 post J 0 1 (nI r) (nI 0) (nI j) m (n + 1) (nI (1 * 36 + p)) a1 a2 a3 a4 a5 a6 a7 := by
  unfold wX_productRow_41
  exact sk_upTo 1 j p (by omega) hj U (br_t (nI_le (Nat.le_refl _) (by omega)) (nm_r (nI_1 0) H))
theorem sk_productRow {post : St2 → Prop} {x m : Int32} {a1 a2 a3 a4 a5 a6 a7 : Nat → Int32} (r i j k l : Nat) (v w : Int32) (hr : r < 6) (hj : j < 6) (hl : l < 6) (A : sk_slot 0 i j v a1 a2 a3) (B : sk_slot 1 k l w a1 a2 a3)
    (H : ∀ b7 : Nat → Int32, (∀ n, n < 6 → b7 n = if n = l ∧ r = i then sk_pr j k v w else 0) → post (m, a1, a2, a3, a4, a5, a6, b7)) (hx : x = nI r := by rfl) :
    wpX_productRow post (m, a1, a2, a3, a4, a5, a6, a7) 0 1 x := by
  subst hx
  unfold wpX_productRow
  dsimp only
  refine sk_clear (fun b7 hb => ?_)
  dsimp only
  have l1 := sk_on_le i v r
  refine sk_from 0 r _ (by omega) hr (A.1 r (by omega)) ?_
  by_cases PA : i = r ∧ v ≠ 0
  · obtain ⟨A2, A3⟩ := A.2 PA.2
    rw [sk_on_lo v (show r ≤ i by omega)]
    have UA : a1 (0 * 7 + (r + 1)) = nI 1 := (A.1 (r + 1) (by omega)).trans (by rw [sk_on_hi (by omega) PA.2])
    refine ⟨0 + 2, ?_⟩
    unfold wX_productRow_12
    refine sk_upTo 0 r 1 (by omega) hr UA (br_f (nI_ge (by omega) (by omega)) ⟨pk_in 0 180 (by omega), ?_⟩)
    rw [nI_clamp (show 0 * 36 + 0 < 2 ^ 31 by omega)]
    refine nm_r A2 ?_
    have l2 := sk_on_le k w j
    refine sk_from 1 j _ (by omega) hj (B.1 j (by omega)) ?_
    by_cases PB : k = j ∧ w ≠ 0
    · obtain ⟨B2, B3⟩ := B.2 PB.2
      have UB : a1 (1 * 7 + (j + 1)) = nI 1 := (B.1 (j + 1) (by omega)).trans (by rw [sk_on_hi (by omega) PB.2])
      rw [sk_on_lo w (show j ≤ k by omega)]
      refine ⟨0 + 2, ?_⟩
      unfold wX_productRow_41
      refine sk_upTo 1 j 1 (by omega) hj UB (br_f (nI_ge (by omega) (by omega)) ⟨pk_in 36 180 (by omega), ?_⟩)
      have c0 : (nI (0 * 36 + 0)).toNatClampNeg = 0 * 36 := nI_clamp (by omega)
      have c1 : (nI (1 * 36 + 0)).toNatClampNeg = 1 * 36 := nI_clamp (by omega)
      rw [c0, c1, A3, B2, B3, nI_clamp (show l < 2 ^ 31 by omega), hb l hl]
      refine ⟨pk_in l 6 hl, pk_in 0 180 (by omega), pk_in 36 180 (by omega), pk_in l 6 hl, nm_e (nm_r (nI_1 36) (sk_p41 0 r j 1 hj (by omega) UB (sk_p12 0 r 1 hr (by omega) UA (H _ (fun n hn => ?_)))))⟩
      by_cases z : n = l
      · rw [z, pk_us, if_pos ⟨rfl, PA.1.symm⟩, Int32.zero_add]
        unfold sk_pr
        rw [if_pos PB.1.symm]
      · rw [pk_un z, if_neg (fun q => z q.1)]
        exact hb n hn
    · have ew : a1 (1 * 7 + (j + 1)) = nI (sk_on k w j) := (B.1 (j + 1) (by omega)).trans (by rw [sk_on_s, sk_at_0 PB]; rfl)
      refine ⟨0 + 1, sk_p41 0 r j (sk_on k w j) hj (by omega) ew (sk_p12 0 r 1 hr (by omega) UA (H _ (fun n hn => ?_)))⟩
      have zp : sk_pr j k v w = 0 := by
        unfold sk_pr
        by_cases e : j = k
        · have hw : w = 0 := Classical.byContradiction (fun z => PB ⟨e.symm, z⟩)
          rw [if_pos e, hw, Int32.mul_zero]
        · rw [if_neg e]
      rw [zp, hb n hn]
      split <;> rfl
  · have ev : a1 (0 * 7 + (r + 1)) = nI (sk_on i v r) := (A.1 (r + 1) (by omega)).trans (by rw [sk_on_s, sk_at_0 PA]; rfl)
    refine ⟨0 + 1, sk_p12 0 r (sk_on i v r) hr (by omega) ev (H _ (fun n hn => ?_))⟩
    by_cases e : n = l ∧ r = i
    · have hv : v = 0 := Classical.byContradiction (fun z => PA ⟨e.2.symm, z⟩)
      rw [if_pos e, hb n hn, hv]
      unfold sk_pr
      rw [Int32.zero_mul]
      split <;> rfl
    · rw [if_neg e]
      exact hb n hn
theorem sk_product {post : Int32 → St2 → Prop} {x m : Int32} {a1 a2 a3 a4 a5 a6 a7 : Nat → Int32} (t i j k l : Nat) (v w : Int32) (ht : t < 5) (hi : i < 6) (hj : j < 6) (hl : l < 6) (A : sk_slot 0 i j v a1 a2 a3) (B : sk_slot 1 k l w a1 a2 a3)
    (H : ∀ b1 b2 b3 b4 b5 b6 b7 : Nat → Int32, sk_slot t i l (sk_pr j k v w) b1 b2 b3 → post (nI (sk_on i (sk_pr j k v w) 6)) (nI (sk_on i (sk_pr j k v w) 6), b1, b2, b3, b4, b5, b6, b7)) (hx : x = nI t := by rfl) :
    wpX_product post (m, a1, a2, a3, a4, a5, a6, a7) x 0 1 := by
  subst hx
  unfold wpX_product
  dsimp only
  refine sk_isSlot t ht (br_f sk_one (sk_isSlot 0 (by omega) (br_f sk_one (sk_isSlot 1 (by omega) (br_f sk_one ?_)))))
  unfold wpX_begin
  dsimp only
  refine nm_e ?_
  have L := pk_loop (fun n r (s : (Nat → Int32) × (Nat → Int32) × (Nat → Int32) × (Nat → Int32)) => wX_product_30 post (nI t) 0 1 n (nI r) (nI (sk_on i (sk_pr j k v w) r)) a1 a2 a3 s.1 s.2.1 s.2.2.1 s.2.2.2) (fun r s => sk_mk i l (sk_pr j k v w) r s.1 s.2.1 s.2.2.1) 6 0 (upd a4 0 0, a5, a6, a7) (by omega) (sk_mk_0 i l (sk_pr j k v w) a4 a5 a6)
    (fun n s h => pk_le 6 6 (fun _ => sk_store1 t i l (sk_pr j k v w) ht hi hl h (fun b1 b2 b3 q _ => H b1 b2 b3 _ _ _ _ q)) (fun z => absurd z (by omega)))
    (fun n r s hr h hw => pk_le 6 r (fun z => absurd z (by omega)) (fun _ => sk_productRow r i j k l v w hr hj hl A B (fun b7 hb =>
      sk_row i l r (sk_pr j k v w) hl hr h hb (fun _ _ _ _ _ _ _ _ h => h) (fun b4 b5 b6 q => nm_r (nI_1 r) (hw (b4, b5, b6, b7) q)))))
  rw [sk_on_0] at L
  exact L
theorem sk_f1 : ∀ t, t < 5 → nI (t * 36 + 0) - 1 < nI (t * 36 + 0) := by decide +kernel
theorem sk_f2 : ∀ t, t < 5 → nI (t * 36 + 1) - 1 = nI (t * 36 + 0) ∧ (nI (t * 36 + 0) + nI (t * 36 + 0)) >>> ((1 : Int32) &&& 31) = nI (t * 36 + 0) := by decide +kernel
theorem sk_atM {post : Int32 → Prop} {x m : Int32} {a1 a2 a3 a4 a5 a6 a7 : Nat → Int32} (t i l : Nat) (p : Int32) (ht : t < 5) (hi : i < 6) (hl : l < 6) (S : sk_slot t i l p a1 a2 a3) (H : post p) (hx : x = nI t := by rfl) :
    wpX_at post (m, a1, a2, a3, a4, a5, a6, a7) x (nI i) (nI l) := by
  subst hx
  unfold wpX_at
  dsimp only
  refine sk_isSlot t ht (br_f sk_one (sk_isIndex i hi (br_f sk_one (sk_isIndex l hl (br_f sk_one ?_)))))
  unfold wpX_find
  dsimp only
  refine sk_from t i 0 ht hi ((S.1 i (by omega)).trans (by rw [sk_on_lo p (Nat.le_refl i)])) ?_
  by_cases hp : p = 0
  · subst hp
    refine sk_upTo t i 0 ht hi ((S.1 (i + 1) (by omega)).trans (by rw [sk_on_z])) (nm_e ⟨1, br_f (by decide) (br_t (sk_f1 t ht) (br_f (by decide) H))⟩)
  · obtain ⟨S2, S3⟩ := S.2 hp
    have q := sk_f2 t ht
    refine sk_upTo t i 1 ht hi ((S.1 (i + 1) (by omega)).trans (by rw [sk_on_hi (by omega) hp])) (nm_r q.1 ⟨1, br_f (by decide) (br_f (nI_nlt (Nat.le_refl _) (by omega)) (nm_r q.2 ⟨pk_in (t * 36 + 0) 180 (by omega), br_t (by rw [nI_clamp (by omega)]; exact S2) (br_t (nI_pos' (by omega)) ⟨pk_in (t * 36 + 0) 180 (by omega), ?_⟩)⟩))⟩)
    rw [nI_clamp (by omega), Nat.add_zero, S3]
    exact H
theorem sk_count {post : Int32 → Prop} {x m : Int32} {a1 a2 a3 a4 a5 a6 a7 : Nat → Int32} (t i l : Nat) (p : Int32) (ht : t < 5) (S : sk_slot t i l p a1 a2 a3) (H : post (nI (sk_on i p 6))) (hx : x = nI t := by rfl) :
    wpX_count post (m, a1, a2, a3, a4, a5, a6, a7) x := by
  subst hx
  unfold wpX_count
  dsimp only
  refine sk_isSlot t ht (br_f sk_one ?_)
  have e : nI t * 7 + 6 = nI (t * 7 + 6) := sk_m7 t 6
  rw [e, nI_clamp (by omega), S.1 6 (by omega)]
  exact ⟨pk_in (t * 7 + 6) 35 (by omega), H⟩
end
section
theorem sk_256 {post : Int32 → St0 → Prop} {mc ms kc ks : Nat} {x7 x8 x9 x10 x11 x12 x13 x14 x15 x16 z0 m : Int32} {a1 a2 a3 a4 a5 a6 a7 : Nat → Int32}
    (C : ∀ P : Int32 → Prop, P x13 → wpX_count P (m, a1, a2, a3, a4, a5, a6, a7) x10) (h11 : x11 = if x7 = x9 then x15 else 0) (h12 : x12 = z0) (h13 : x13 = if x16 = 0 then 0 else 1) (h14 : x14 = if x7 = x8 then x15 else 0) (H : post 1 ()) :
    wL_lawOf_256 post mc ms x7 x8 x9 x10 x11 x12 x13 x14 x15 x16 z0 kc ks m a1 a2 a3 a4 a5 a6 a7 := by
  unfold wL_lawOf_256
  have F : ∀ z : Int32, x13 = z → wL_lawOf_304 post mc ms x7 x8 x13 x14 x15 x13 z x13 kc ks := fun z e => br_t e (br_c (fun q => br_t (by rw [h14, if_pos q]) (br_t rfl H)) (fun q => br_t (by rw [h14, if_neg q]) (br_t rfl H)))
  have E : ∀ z : Int32, x11 = z → wL_lawOf_282 post mc ms x7 x8 x12 x13 x14 x15 x16 z0 x13 z x11 kc ks := fun z e => br_t e (br_t h12 (br_c (fun q => F 0 (by rw [h13, if_pos q])) (fun q => F 1 (by rw [h13, if_neg q]))))
  exact C _ (br_c (fun q => E _ (by rw [h11, if_pos q])) (fun q => E _ (by rw [h11, if_neg q])))
theorem sk_157 {post : Int32 → St0 → Prop} {mc ms kc ks : Nat} {x10 x11 x12 x13 x14 x15 x16 m v w : Int32} {a1 a2 a3 a4 a5 a6 a7 : Nat → Int32} (i j k l : Nat) (hi : i < 6) (hj : j < 6) (hk : k < 6) (hl : l < 6)
    (K : ∀ z : Int32, nI (sk_ct i j v k l w 6) = z → wL_lawOf_256 post mc ms (nI j) (nI k) (nI l) x10 x11 x12 x13 x14 x15 x16 z kc ks m a1 a2 a3 a4 a5 a6 a7) :
    wL_lawOf_157 post mc ms v w (nI i) (nI j) (nI k) (nI l) x10 x11 x12 x13 x14 x15 x16 kc ks m a1 a2 a3 a4 a5 a6 a7 := by
  have D : ¬ (i = k ∧ j = l) → wL_lawOf_177 post mc ms v w (nI j) (nI k) (nI l) x10 x11 x12 x13 x14 x15 x16 kc ks m a1 a2 a3 a4 a5 a6 a7 := by
    intro e
    have c : sk_ct i j v k l w 6 = sk_on i v 6 + sk_on k w 6 := by
      unfold sk_ct
      rw [if_neg e]
    refine br_t rfl (br_t rfl (br_c (fun hv => br_c (fun hw => br_t rfl (K _ ?_)) (fun hw => br_t rfl (K _ ?_))) (fun hv => br_c (fun hw => br_t rfl (K _ ?_)) (fun hw => br_t rfl (K _ ?_)))))
    · rw [c, hv, hw, sk_on_z, sk_on_z]
      rfl
    · rw [c, hv, sk_on_z, sk_on_hi hk hw]
      rfl
    · rw [c, hw, sk_on_z, sk_on_hi hi hv]
      rfl
    · rw [c, sk_on_hi hi hv, sk_on_hi hk hw]
      rfl
  refine pk_eq i k (fun e => pk_eq j l (fun f => ?_) (fun f => D (fun q => f q.2))) (fun e => D (fun q => e q.1))
  have c : sk_ct i j v k l w 6 = sk_on i (v + w) 6 := by
    unfold sk_ct
    rw [if_pos ⟨e, f⟩]
  refine br_f sk_one (br_c (fun s => br_f sk_one (br_f sk_one ?_)) (fun s => br_f sk_one (br_t rfl ?_)))
  · have c0 : nI (sk_ct i j v k l w 6) = 0 := by
      rw [c, s, sk_on_z]
      rfl
    exact br_f sk_one (br_c (fun hv => br_c (fun hw => K _ c0) (fun hw => K _ c0)) (fun hv => K _ c0))
  · have c1 : nI (sk_ct i j v k l w 6) = 1 := by
      rw [c, sk_on_hi hi s]
      rfl
    exact br_f sk_one (br_c (fun hv => br_c (fun hw => absurd (by rw [hv, hw]; rfl) s) (fun hw => K _ c1)) (fun hv => K _ c1))
theorem sk_mod6 (x : Int32) : ∃ i : Nat, i < 6 ∧ (x &&& 255) - (x &&& 255) / 6 * 6 = nI i := by
  obtain ⟨a, ha, e⟩ := pk_andE x (m := 255) 8 (by decide)
  exact ⟨a % 6, Nat.mod_lt _ (by omega), by rw [e]; exact pk_rem (d := 6) (by omega) (by omega) (by omega)⟩
theorem sk_mod5 (x : Int32) : ∃ i : Nat, i < 5 ∧ (x &&& 65535) - (x &&& 65535) / 5 * 5 = nI i := by
  obtain ⟨a, ha, e⟩ := pk_andE x (m := 65535) 16 (by decide)
  exact ⟨a % 5, Nat.mod_lt _ (by omega), by rw [e]; exact pk_rem (d := 5) (by omega) (by omega) (by omega)⟩
theorem sk_lawOf {post : Int32 → St0 → Prop} (v w p0 p1 p4 : Int32) (H : post 1 ()) : wpL_lawOf post 8 488 () p0 p1 v w p4 := by
  obtain ⟨i, hi, ei⟩ := sk_mod6 p0
  obtain ⟨j, hj, ej⟩ := sk_mod6 (p0 >>> ((8 : Int32) &&& 31))
  obtain ⟨k, hk, ek⟩ := sk_mod6 p1
  obtain ⟨l, hl, el⟩ := sk_mod6 (p1 >>> ((8 : Int32) &&& 31))
  obtain ⟨t, ht, et⟩ := sk_mod5 p4
  unfold wpL_lawOf
  refine ⟨by omega, by omega, 7, 480, by omega, by omega, ?_⟩
  unfold wpX_init
  refine ⟨by omega, by omega, by omega, by omega, by omega, by omega, by omega, by omega, by omega, by omega, by omega, by omega, by omega, by omega, ?_⟩
  refine ⟨by decide, nm_r ei ⟨by decide, nm_r ej ⟨by decide, nm_r ek ⟨by decide, nm_r el ⟨by decide, nm_r et ?_⟩⟩⟩⟩⟩
  refine sk_put 0 i j (by omega) hi hj (fun n _ => rfl) (fun b1 b2 b3 b4 b5 b6 b7 A0 K0 => ?_)
  refine sk_put 1 k l (by omega) hk hl (fun n hn => (K0.1 _ (by omega)).trans rfl) (fun c1 c2 c3 c4 c5 c6 c7 B1 K1 => ?_)
  have A1 := sk_slot_keep (by omega) K1 A0
  refine sk_rowsProduct i j k l v w hi hj hk hl A1 B1 ?_
  refine sk_add i j k l v w hj hl A1 B1 (fun d1 d2 d3 d4 d5 d6 d7 K2 => ?_)
  have A2 := sk_slot_keep (by omega) K2 A1
  have B2 := sk_slot_keep (by omega) K2 B1
  refine sk_product t i j k l v w ht hi hj hl A2 B2 (fun e1 e2 e3 e4 e5 e6 e7 S => ?_)
  refine sk_atM t i l (sk_pr j k v w) ht hi hl S ?_
  refine nm_e ?_
  have R : (if j = l then v * w else 0) = (if nI j = nI l then v * w else (0 : Int32)) := by
    by_cases e : j = l
    · rw [if_pos e, e, if_pos rfl]
    · rw [if_neg e, if_neg (fun q => e ((nI_eq (by omega) (by omega)).mp q))]
  have T : sk_pr j k v w = (if nI j = nI k then v * w else 0) := by
    unfold sk_pr
    by_cases e : j = k
    · rw [if_pos e, e, if_pos rfl]
    · rw [if_neg e, if_neg (fun q => e ((nI_eq (by omega) (by omega)).mp q))]
  have M : ∀ z : Int32, nI (sk_on i (sk_pr j k v w) 6) = (if z = 0 then 0 else 1) → wL_lawOf_157 post 8 488 v w (nI i) (nI j) (nI k) (nI l) (nI t) (if j = l then v * w else 0) (nI (sk_ct i j v k l w 6)) (nI (sk_on i (sk_pr j k v w) 6)) (sk_pr j k v w) (v * w) z (1 + 7) (8 + 480) (nI (sk_on i (sk_pr j k v w) 6)) e1 e2 e3 e4 e5 e6 e7 :=
    fun z hz => sk_157 i j k l hi hj hk hl (fun y hy => sk_256 (fun P hP => sk_count t i l (sk_pr j k v w) ht S hP) R hy hz T H)
  refine pk_eq j k (fun e => br_c (fun g => M 0 ?_) (fun g => M 1 ?_)) (fun e => M 0 ?_)
  · have z : sk_pr j k v w = 0 := by
      unfold sk_pr
      rw [if_pos e, g]
    rw [z, sk_on_z]
    rfl
  · have z : sk_pr j k v w = v * w := by
      unfold sk_pr
      rw [if_pos e]
    rw [z, sk_on_hi hi g]
    rfl
  · have z : sk_pr j k v w = 0 := by
      unfold sk_pr
      rw [if_neg e]
    rw [z, sk_on_z]
    rfl
theorem sk_cell {P : Int32 → Prop} {L : Nat} {xs : Nat → Int32} {x : Int32} (hL : L ≤ 5) (n : Nat) (hn : n < 5) (H : ∀ r, P r) (hx : x = nI n := by rfl) : wpL_cellAt P L xs () x :=
  pk_le L n (fun _ => H 0) (fun z => ⟨pk_in n L z hx, H _⟩) rfl hx
theorem i_vc (xs : Nat → Int32) (L : Nat) (hL : L ≤ 5) : wpL_law (fun r => r = 1) L xs := by
  unfold wpL_law
  exact sk_cell hL 0 (by omega) (fun r1 => sk_cell hL 1 (by omega) (fun r2 => sk_cell hL 2 (by omega) (fun r3 => sk_cell hL 3 (by omega) (fun r4 => sk_cell hL 4 (by omega) (fun r5 => ⟨8, 488, by omega, by omega, sk_lawOf r3 r4 r1 r2 r5 rfl⟩)))))
end
