section
/-- emit, over the list that is made, its last piece first -/
def am_em (r : List (Nat × Nat)) (x y : Nat) : List (Nat × Nat) :=
  if x < y then
    match r with
    | [] => [(x, y)]
    | (p, q) :: t => if q = x then (p, y) :: t else (x, y) :: (p, q) :: t
  else r
/-- proper pieces -/
def am_ok : List (Nat × Nat) → Prop
  | [] => True
  | (p, q) :: t => p < q ∧ q ≤ 64 ∧ am_ok t
/-- the pages of a list -/
def am_sum : List (Nat × Nat) → Nat
  | [] => 0
  | (p, q) :: t => am_sum t + (q - p)
theorem am_em_n {r : List (Nat × Nat)} {x y : Nat} (h : ¬ x < y) : am_em r x y = r := by
  unfold am_em
  rw [if_neg h]
theorem am_em_0 {x y : Nat} (h : x < y) : am_em [] x y = [(x, y)] := by
  unfold am_em
  rw [if_pos h]
theorem am_em_j {p q y : Nat} {t : List (Nat × Nat)} (h : q < y) : am_em ((p, q) :: t) q y = (p, y) :: t := by
  unfold am_em
  rw [if_pos h]
  exact if_pos rfl
theorem am_em_a {p q x y : Nat} {t : List (Nat × Nat)} (h : x < y) (hq : q ≠ x) : am_em ((p, q) :: t) x y = (x, y) :: (p, q) :: t := by
  unfold am_em
  rw [if_pos h]
  exact if_neg hq
theorem am_em_len (r : List (Nat × Nat)) (x y : Nat) : (am_em r x y).length ≤ r.length + 1 := by
  by_cases h : x < y
  · cases r with
    | nil =>
      rw [am_em_0 h]
      exact Nat.le_refl 1
    | cons v t =>
      obtain ⟨p, q⟩ := v
      by_cases e : q = x
      · subst e
        rw [am_em_j h]
        show t.length + 1 ≤ t.length + 1 + 1
        omega
      · rw [am_em_a h e]
        exact Nat.le_refl _
  · rw [am_em_n h]
    omega
theorem am_em_sum {r : List (Nat × Nat)} (hr : am_ok r) (x y : Nat) : am_sum (am_em r x y) = am_sum r + (y - x) := by
  by_cases h : x < y
  · cases r with
    | nil =>
      rw [am_em_0 h]
      rfl
    | cons v t =>
      obtain ⟨p, q⟩ := v
      obtain ⟨h1, h2, h3⟩ := hr
      by_cases e : q = x
      · subst e
        rw [am_em_j h]
        show am_sum t + (y - p) = am_sum t + (q - p) + (y - q)
        omega
      · rw [am_em_a h e]
        rfl
  · rw [am_em_n h]
    omega
theorem am_em_ok {r : List (Nat × Nat)} (hr : am_ok r) {x y : Nat} (hy : y ≤ 64) : am_ok (am_em r x y) := by
  by_cases h : x < y
  · cases r with
    | nil =>
      rw [am_em_0 h]
      exact ⟨h, hy, trivial⟩
    | cons v t =>
      obtain ⟨p, q⟩ := v
      by_cases e : q = x
      · subst e
        obtain ⟨h1, h2, h3⟩ := hr
        rw [am_em_j h]
        exact ⟨by omega, hy, h3⟩
      · rw [am_em_a h e]
        exact ⟨h, hy, hr⟩
  · rw [am_em_n h]
    exact hr
/-- one turn of rewrite's loop: whether the span is put, and the list -/
def am_turn (F T : Nat → Nat) (x y i : Nat) (s : Bool × List (Nat × Nat)) : Bool × List (Nat × Nat) :=
  match s with
  | (true, r) => (true, am_em (am_em r (F i) (min (T i) x)) (max (F i) y) (T i))
  | (false, r) => if T i ≤ x then (false, am_em (am_em r (F i) (min (T i) x)) (max (F i) y) (T i)) else (true, am_em (am_em (am_em r (F i) (min (T i) x)) x y) (max (F i) y) (T i))
def am_run (F T : Nat → Nat) (x y : Nat) (b : Bool) : Nat → Bool × List (Nat × Nat)
  | 0 => (b, [])
  | i + 1 => am_turn F T x y i (am_run F T x y b i)
def am_fin (x y : Nat) (s : Bool × List (Nat × Nat)) : List (Nat × Nat) :=
  match s with
  | (true, r) => r
  | (false, r) => am_em r x y
theorem am_turn_f0 {F T : Nat → Nat} {x y i : Nat} {r : List (Nat × Nat)} (h : T i ≤ x) : am_turn F T x y i (false, r) = (false, am_em (am_em r (F i) (min (T i) x)) (max (F i) y) (T i)) := if_pos h
theorem am_turn_f1 {F T : Nat → Nat} {x y i : Nat} {r : List (Nat × Nat)} (h : ¬ T i ≤ x) : am_turn F T x y i (false, r) = (true, am_em (am_em (am_em r (F i) (min (T i) x)) x y) (max (F i) y) (T i)) := if_neg h
theorem am_turn_t {F T : Nat → Nat} {x y i : Nat} {r : List (Nat × Nat)} : am_turn F T x y i (true, r) = (true, am_em (am_em r (F i) (min (T i) x)) (max (F i) y) (T i)) := rfl
theorem am_turn_len (F T : Nat → Nat) (x y i : Nat) (s : Bool × List (Nat × Nat)) : (am_turn F T x y i s).2.length ≤ s.2.length + 3 := by
  obtain ⟨b, r⟩ := s
  have l1 := am_em_len r (F i) (min (T i) x)
  have l2 := am_em_len (am_em r (F i) (min (T i) x)) x y
  have l3 := am_em_len (am_em r (F i) (min (T i) x)) (max (F i) y) (T i)
  have l4 := am_em_len (am_em (am_em r (F i) (min (T i) x)) x y) (max (F i) y) (T i)
  cases b with
  | true =>
    rw [am_turn_t]
    dsimp only
    omega
  | false =>
    by_cases h : T i ≤ x
    · rw [am_turn_f0 h]
      dsimp only
      omega
    · rw [am_turn_f1 h]
      dsimp only
      omega
theorem am_run_len (F T : Nat → Nat) (x y : Nat) (b : Bool) (i : Nat) : (am_run F T x y b i).2.length ≤ 3 * i := by
  induction i with
  | zero => exact Nat.le_refl 0
  | succ i ih =>
    have h := am_turn_len F T x y i (am_run F T x y b i)
    show (am_turn F T x y i (am_run F T x y b i)).2.length ≤ 3 * (i + 1)
    omega
theorem am_fin_len (x y : Nat) (s : Bool × List (Nat × Nat)) : (am_fin x y s).length ≤ s.2.length + 1 := by
  obtain ⟨b, r⟩ := s
  cases b with
  | true => exact Nat.le_succ _
  | false => exact am_em_len r x y
/-- mappedIn: the pages of p .. q in the first c areas -/
def am_ms (F T : Nat → Nat) (p q : Nat) : Nat → Nat
  | 0 => 0
  | i + 1 => am_ms F T p q i + (min (T i) q - max (F i) p)
/-- a span that meets no area is put: what stood stands, and its length is added -/
def am_bn (b : Bool) (n : Nat) : Nat := match b with
  | true => n
  | false => 0
theorem am_turn_sum {F T : Nat → Nat} {x n i : Nat} {s : Bool × List (Nat × Nat)} (hr : am_ok s.2) (hF : F i < T i) (hT : T i ≤ 64) (hxn : x + n ≤ 64) (hd : T i ≤ x ∨ x + n ≤ F i) :
    am_ok (am_turn F T x (x + n) i s).2 ∧ am_sum (am_turn F T x (x + n) i s).2 + am_bn s.1 n = am_sum s.2 + (T i - F i) + am_bn (am_turn F T x (x + n) i s).1 n := by
  obtain ⟨b, r⟩ := s
  have hr' : am_ok r := hr
  have o1 : am_ok (am_em r (F i) (min (T i) x)) := am_em_ok hr' (by omega)
  have o2 : am_ok (am_em (am_em r (F i) (min (T i) x)) x (x + n)) := am_em_ok o1 hxn
  have s1 := am_em_sum hr' (F i) (min (T i) x)
  have s2 := am_em_sum o1 x (x + n)
  have s3 := am_em_sum o1 (max (F i) (x + n)) (T i)
  have s4 := am_em_sum o2 (max (F i) (x + n)) (T i)
  cases b with
  | true =>
    rw [am_turn_t]
    refine ⟨am_em_ok o1 hT, ?_⟩
    show am_sum (am_em (am_em r (F i) (min (T i) x)) (max (F i) (x + n)) (T i)) + n = am_sum r + (T i - F i) + n
    omega
  | false =>
    by_cases h : T i ≤ x
    · rw [am_turn_f0 h]
      refine ⟨am_em_ok o1 hT, ?_⟩
      show am_sum (am_em (am_em r (F i) (min (T i) x)) (max (F i) (x + n)) (T i)) + 0 = am_sum r + (T i - F i) + 0
      omega
    · rw [am_turn_f1 h]
      refine ⟨am_em_ok o2 hT, ?_⟩
      show am_sum (am_em (am_em (am_em r (F i) (min (T i) x)) x (x + n)) (max (F i) (x + n)) (T i)) + 0 = am_sum r + (T i - F i) + n
      omega
theorem am_run_sum {F T : Nat → Nat} {x n c : Nat} (hF : ∀ j, j < c → F j < T j ∧ T j ≤ 64) (hxn : x + n ≤ 64) (hd : ∀ j, j < c → T j ≤ x ∨ x + n ≤ F j) (i : Nat) (hi : i ≤ c) :
    am_ok (am_run F T x (x + n) false i).2 ∧ am_sum (am_run F T x (x + n) false i).2 = am_ms F T 0 64 i + am_bn (am_run F T x (x + n) false i).1 n := by
  induction i with
  | zero => exact ⟨trivial, rfl⟩
  | succ i ih =>
    obtain ⟨h1, h2⟩ := ih (by omega)
    obtain ⟨f1, f2⟩ := hF i (by omega)
    obtain ⟨g1, g2⟩ := am_turn_sum (F := F) (T := T) (i := i) h1 f1 f2 hxn (hd i (by omega))
    refine ⟨g1, ?_⟩
    show am_sum (am_turn F T x (x + n) i (am_run F T x (x + n) false i)).2 = am_ms F T 0 64 i + (min (T i) 64 - max (F i) 0) + am_bn (am_turn F T x (x + n) i (am_run F T x (x + n) false i)).1 n
    omega
theorem am_fin_sum {F T : Nat → Nat} {x n c : Nat} (hF : ∀ j, j < c → F j < T j ∧ T j ≤ 64) (hxn : x + n ≤ 64) (hd : ∀ j, j < c → T j ≤ x ∨ x + n ≤ F j) :
    am_sum (am_fin x (x + n) (am_run F T x (x + n) false c)) = am_ms F T 0 64 c + n := by
  obtain ⟨h1, h2⟩ := am_run_sum hF hxn hd c (Nat.le_refl c)
  generalize am_run F T x (x + n) false c = s at h1 h2 ⊢
  obtain ⟨b, r⟩ := s
  cases b with
  | true => exact h2
  | false =>
    have h1' : am_ok r := h1
    have h2' : am_sum r = am_ms F T 0 64 c + 0 := h2
    show am_sum (am_em r x (x + n)) = am_ms F T 0 64 c + n
    rw [am_em_sum h1']
    omega
/-- what free leaves of one area a .. a + l -/
def am_cut (a l b m : Nat) : List (Nat × Nat) := am_em (am_em [] a (min (a + l) b)) (max a (b + m)) (a + l)
theorem am_cut_A {a l b m : Nat} (hm : 1 ≤ m) (h1 : a < b) (h2 : b + m < a + l) : am_cut a l b m = [(b + m, a + l), (a, b)] := by
  unfold am_cut
  rw [show min (a + l) b = b by omega, show max a (b + m) = b + m by omega, am_em_0 h1, am_em_a (q := b) h2 (by omega)]
theorem am_cut_B {a l b m : Nat} (hl : 1 ≤ l) (h1 : a < b) (h2 : a + l ≤ b + m) : am_cut a l b m = [(a, min (a + l) b)] := by
  unfold am_cut
  rw [am_em_0 (show a < min (a + l) b by omega), am_em_n (show ¬ max a (b + m) < a + l by omega)]
theorem am_cut_C {a l b m : Nat} (h1 : b ≤ a) (h2 : max a (b + m) < a + l) : am_cut a l b m = [(max a (b + m), a + l)] := by
  unfold am_cut
  rw [am_em_n (show ¬ a < min (a + l) b by omega), am_em_0 h2]
theorem am_cut_D {a l b m : Nat} (h1 : b ≤ a) (h2 : a + l ≤ max a (b + m)) : am_cut a l b m = [] := by
  unfold am_cut
  rw [am_em_n (show ¬ a < min (a + l) b by omega), am_em_n (show ¬ max a (b + m) < a + l by omega)]
end
section
/-- three arrays hold a list (last piece first) of pieces of kind 13 -/
def am_R : List (Nat × Nat) → (Nat → Int32) → (Nat → Int32) → (Nat → Int32) → Prop
  | [], _, _, _ => True
  | (p, q) :: t, a, b, k => a t.length = nI p ∧ b t.length = nI q ∧ k t.length = 13 ∧ p < q ∧ q ≤ 64 ∧ am_R t a b k
/-- three arrays hold c areas of kind 13 -/
def am_src (c : Nat) (F T : Nat → Nat) (a b k : Nat → Int32) : Prop := ∀ j, j < c → a j = nI (F j) ∧ b j = nI (T j) ∧ k j = 13 ∧ F j < T j ∧ T j ≤ 64
def am_F (a : Nat → Int32) (j : Nat) : Nat := (a j).toNatClampNeg
theorem am_R_ext {r : List (Nat × Nat)} {a b k a' b' k' : Nat → Int32} (h : ∀ j, j < r.length → a' j = a j ∧ b' j = b j ∧ k' j = k j) (hR : am_R r a b k) : am_R r a' b' k' := by
  induction r with
  | nil => trivial
  | cons v t ih =>
    obtain ⟨p, q⟩ := v
    obtain ⟨h1, h2, h3, h4, h5, h6⟩ := hR
    obtain ⟨e1, e2, e3⟩ := h t.length (by rw [List.length_cons]; omega)
    exact ⟨e1.trans h1, e2.trans h2, e3.trans h3, h4, h5, ih (fun j hj => h j (by rw [List.length_cons]; omega)) h6⟩
theorem am_R_src {r : List (Nat × Nat)} {a b k : Nat → Int32} (hR : am_R r a b k) : am_src r.length (am_F a) (am_F b) a b k := by
  induction r with
  | nil => exact fun j hj => absurd hj (Nat.not_lt_zero j)
  | cons v t ih =>
    obtain ⟨p, q⟩ := v
    obtain ⟨h1, h2, h3, h4, h5, h6⟩ := hR
    intro j hj
    rw [List.length_cons] at hj
    by_cases e : j = t.length
    · rw [e]
      have f1 : am_F a t.length = p := by unfold am_F; rw [h1]; exact nI_clamp (by omega)
      have f2 : am_F b t.length = q := by unfold am_F; rw [h2]; exact nI_clamp (by omega)
      rw [f1, f2]
      exact ⟨h1, h2, h3, h4, h5⟩
    · exact ih h6 j (by omega)
theorem am_R_ms {r : List (Nat × Nat)} {a b k : Nat → Int32} (hR : am_R r a b k) : am_ms (am_F a) (am_F b) 0 64 r.length = am_sum r := by
  induction r with
  | nil => rfl
  | cons v t ih =>
    obtain ⟨p, q⟩ := v
    obtain ⟨h1, h2, h3, h4, h5, h6⟩ := hR
    have f1 : am_F a t.length = p := by unfold am_F; rw [h1]; exact nI_clamp (by omega)
    have f2 : am_F b t.length = q := by unfold am_F; rw [h2]; exact nI_clamp (by omega)
    show am_ms (am_F a) (am_F b) 0 64 t.length + (min (am_F b t.length) 64 - max (am_F a t.length) 0) = am_sum t + (q - p)
    rw [ih h6, f1, f2]
    omega
theorem am_n8 : ∀ x, x < 65 → (nI x).toInt8.toInt32 = nI x := by decide +kernel
theorem am_13 : (13 : Int32).toInt8.toInt32 = 13 := by decide +kernel
theorem am_vn {x : Nat} (h : x < 65) : vp_nar .byte (nI x) = nI x := by rw [vp_nar_byte, am_n8 x h]
theorem am_v13 : vp_nar .byte (13 : Int32) = 13 := by rw [vp_nar_byte, am_13]
/-- append -/
theorem am_app {post : St2 → Prop} {c : Int32} {a1 a2 a3 a4 a5 a6 : Nat → Int32} {r : List (Nat × Nat)} {x y : Nat} (hR : am_R r a4 a5 a6) (hl : r.length < 48) (h : x < y) (hy : y ≤ 64)
    (hp : ∀ b4 b5 b6 : Nat → Int32, am_R ((x, y) :: r) b4 b5 b6 → post (c, nI (r.length + 1), a1, a2, a3, b4, b5, b6)) :
    wX_emit_47 post (nI x) (nI y) 13 c (nI r.length) a1 a2 a3 a4 a5 a6 := by
  unfold wX_emit_47 wX_emit_48
  rw [nI_clamp (show r.length < 2 ^ 31 by omega), am_n8 x (by omega), am_n8 y (by omega), am_13]
  refine br_t rfl ⟨pk_in r.length 48 hl, nm_e ⟨pk_in r.length 48 hl, nm_e ⟨pk_in r.length 48 hl, nm_e (nm_r (nI_1 _) (hp _ _ _ ?_))⟩⟩⟩
  exact ⟨pk_us, pk_us, pk_us, h, hy, am_R_ext (fun j hj => ⟨pk_un (by omega), pk_un (by omega), pk_un (by omega)⟩) hR⟩
/-- join -/
theorem am_join {post : St2 → Prop} {c : Int32} {a1 a2 a3 a4 a5 a6 : Nat → Int32} {t : List (Nat × Nat)} {p q y : Nat} (hR : am_R ((p, q) :: t) a4 a5 a6) (hl : t.length < 48) (h : q < y) (hy : y ≤ 64)
    (hp : ∀ b4 b5 b6 : Nat → Int32, am_R ((p, y) :: t) b4 b5 b6 → post (c, nI (t.length + 1), a1, a2, a3, b4, b5, b6)) :
    wX_emit_48 post (nI q) (nI y) 13 1 c (nI (t.length + 1)) a1 a2 a3 a4 a5 a6 := by
  obtain ⟨h1, h2, h3, h4, h5, h6⟩ := hR
  unfold wX_emit_48
  rw [nI_pred, nI_clamp (show t.length < 2 ^ 31 by omega), am_n8 y (by omega)]
  refine br_f (by decide) ⟨pk_in t.length 48 hl, nm_e (hp _ _ _ ?_)⟩
  exact ⟨h1, pk_us, h3, by omega, hy, am_R_ext (fun j hj => ⟨rfl, pk_un (by omega), rfl⟩) h6⟩
theorem am_emit {post : St2 → Prop} {c z0 z1 z2 : Int32} {a1 a2 a3 a4 a5 a6 : Nat → Int32} {r : List (Nat × Nat)} {x y : Nat} (e0 : z0 = nI x) (e1 : z1 = nI y) (e2 : z2 = 13) (hR : am_R r a4 a5 a6) (hl : r.length < 48) (hx : x ≤ 64) (hy : y ≤ 64)
    (hp : ∀ b4 b5 b6 : Nat → Int32, am_R (am_em r x y) b4 b5 b6 → post (c, nI (am_em r x y).length, a1, a2, a3, b4, b5, b6)) :
    wpX_emit post (c, nI r.length, a1, a2, a3, a4, a5, a6) z0 z1 z2 := by
  subst e0 e1 e2
  refine pk_lt x y (fun h => ?_) (fun h => ?_)
  · cases r with
    | nil =>
      rw [am_em_0 h] at hp
      exact pk_le 0 0 (fun _ => am_app (r := []) hR (by decide) h hy hp) (fun z => absurd z (by omega))
    | cons v t =>
      obtain ⟨p, q⟩ := v
      rw [List.length_cons] at hl
      have hR' := hR
      obtain ⟨h1, h2, h3, h4, h5, h6⟩ := hR'
      have e : (nI (t.length + 1) - 1).toNatClampNeg = t.length := by rw [nI_pred, nI_clamp (by omega)]
      have hin : vp_in (nI (t.length + 1) - 1) 48 := pk_in t.length 48 (by omega) (nI_pred _)
      rw [List.length_cons]
      refine pk_le (t.length + 1) 0 (fun z => absurd z (by omega)) (fun _ => ⟨hin, ?_⟩)
      rw [e, h2, h3]
      refine pk_eq q x (fun z => ⟨hin, br_t rfl ?_⟩) (fun z => ?_)
      · subst z
        rw [am_em_j h] at hp
        exact am_join hR (by omega) h hy hp
      · rw [am_em_a h z] at hp
        exact am_app (r := (p, q) :: t) hR hl h hy hp
  · rw [am_em_n (show ¬ x < y by omega)] at hp
    exact hp _ _ _ hR
theorem am_commit {post : Int32 → St2 → Prop} {c : Int32} {a1 a2 a3 a4 a5 a6 : Nat → Int32} {r : List (Nat × Nat)} (hR : am_R r a4 a5 a6) (hl : r.length ≤ 20)
    (hp : ∀ b1 b2 b3 : Nat → Int32, am_R r b1 b2 b3 → post 1 (nI r.length, nI r.length, b1, b2, b3, a4, a5, a6)) :
    wpX_commit post (c, nI r.length, a1, a2, a3, a4, a5, a6) := by
  have hs := am_R_src hR
  refine pk_le r.length 20 (fun _ => ?_) (fun z => absurd z (by omega))
  refine pk_loop (fun n i (s : (Nat → Int32) × (Nat → Int32) × (Nat → Int32)) => wX_commit_21 post (nI r.length) (nI r.length) n (nI i) s.1 s.2.1 s.2.2 a4 a5 a6) (fun i s => ∀ j, j < i → s.1 j = a4 j ∧ s.2.1 j = a5 j ∧ s.2.2 j = a6 j) r.length 0 (a1, a2, a3) (by omega) (fun j hj => absurd hj (by omega)) ?_ ?_
  · exact fun n s h => pk_le r.length r.length (fun _ => hp _ _ _ (am_R_ext h hR)) (fun z => absurd z (by omega))
  · intro n i s hi h hw
    obtain ⟨g1, g2, g3, g4, g5⟩ := hs i hi
    have c1 : (nI i).toNatClampNeg = i := nI_clamp (by omega)
    have n1 : vp_nar .byte (a4 (nI i).toNatClampNeg) = a4 i := by rw [c1, g1, am_vn (by omega)]
    have n2 : vp_nar .byte (a5 (nI i).toNatClampNeg) = a5 i := by rw [c1, g2, am_vn (by omega)]
    have n3 : vp_nar .byte (a6 (nI i).toNatClampNeg) = a6 i := by rw [c1, g3, am_v13]
    have i1 : vp_in (nI i) 48 := pk_in i 48 (by omega)
    have i2 : vp_in (nI i) 20 := pk_in i 20 (by omega)
    refine pk_le r.length i (fun z => absurd z (by omega)) (fun _ => ⟨i1, i2, nm_r (by rw [n1, c1]) ⟨i1, i2, nm_r (by rw [n2, c1]) ⟨i1, i2, nm_r (by rw [n3, c1]) (nm_r (nI_1 i) (hw (upd s.1 i (a4 i), upd s.2.1 i (a5 i), upd s.2.2 i (a6 i)) ?_))⟩⟩⟩)
    intro j hj
    by_cases e : j = i
    · rw [e]
      exact ⟨pk_us, pk_us, pk_us⟩
    · obtain ⟨k1, k2, k3⟩ := h j (by omega)
      exact ⟨(pk_un e).trans k1, (pk_un e).trans k2, (pk_un e).trans k3⟩
theorem am_least {post : Int32 → Prop} {z0 z1 : Int32} {x y : Nat} (e0 : z0 = nI x) (e1 : z1 = nI y) (hx : x ≤ 64) (hy : y ≤ 64) (hp : post (nI (min x y))) : wpX_least post () z0 z1 := by
  subst e0 e1
  refine pk_le y x (fun h => ?_) (fun h => ?_)
  · rw [show min x y = y by omega] at hp
    exact hp
  · rw [show min x y = x by omega] at hp
    exact hp
theorem am_great {post : Int32 → Prop} {z0 z1 : Int32} {x y : Nat} (e0 : z0 = nI x) (e1 : z1 = nI y) (hx : x ≤ 64) (hy : y ≤ 64) (hp : post (nI (max x y))) : wpX_greatest post () z0 z1 := by
  subst e0 e1
  refine pk_le x y (fun h => ?_) (fun h => ?_)
  · rw [show max x y = y by omega] at hp
    exact hp
  · rw [show max x y = x by omega] at hp
    exact hp
theorem am_mapIn {post : Int32 → Prop} {c p q : Nat} {F T : Nat → Nat} {mk : Int32} {a1 a2 a3 a4 a5 a6 : Nat → Int32} (hS : am_src c F T a1 a2 a3) (hc : c ≤ 20) (hp64 : p ≤ 64) (hq64 : q ≤ 64) (hp : post (nI (am_ms F T p q c))) :
    wpX_mappedIn post (nI c, mk, a1, a2, a3, a4, a5, a6) (nI p) (nI q) := by
  refine pk_loop (fun n i (s : Nat) => wX_mappedIn_5 post (nI p) (nI q) (nI c) mk a1 a2 a3 a4 a5 a6 n (nI s) (nI i)) (fun i s => s = am_ms F T p q i) c 0 0 (by omega) rfl ?_ ?_
  · exact fun n s (h : s = am_ms F T p q c) => pk_le c c (fun _ => by rw [h]; exact hp) (fun z => absurd z (by omega))
  · intro n i s hi h hw
    have h' : s = am_ms F T p q i := h
    obtain ⟨g1, g2, g3, g4, g5⟩ := hS i hi
    have c1 : (nI i).toNatClampNeg = i := nI_clamp (by omega)
    have i2 : vp_in (nI i) 20 := pk_in i 20 (by omega)
    refine pk_le c i (fun z => absurd z (by omega)) (fun _ => ⟨i2, ?_⟩)
    refine am_great (x := F i) (y := p) (by rw [c1, g1]) rfl (by omega) hp64 ⟨i2, ?_⟩
    refine am_least (x := T i) (y := q) (by rw [c1, g2]) rfl (by omega) hq64 ?_
    refine pk_le (min (T i) q) (max (F i) p) (fun z => ?_) (fun z => ?_)
    · refine nm_r (e' := nI (am_ms F T p q (i + 1))) ?_ (nm_r (nI_1 i) (hw _ rfl))
      have e : am_ms F T p q (i + 1) = s := by
        show am_ms F T p q i + (min (T i) q - max (F i) p) = s
        omega
      rw [e]
      exact Int32.add_zero _
    · refine nm_r (e' := nI (am_ms F T p q (i + 1))) ?_ (nm_r (nI_1 i) (hw _ rfl))
      have e : s + (min (T i) q - max (F i) p) = am_ms F T p q (i + 1) := by
        rw [h']
        rfl
      rw [pk_sub (show max (F i) p ≤ min (T i) q by omega), nI_add, e]
theorem am_mapped {post : Int32 → Prop} {c : Nat} {F T : Nat → Nat} {mk : Int32} {a1 a2 a3 a4 a5 a6 : Nat → Int32} (hS : am_src c F T a1 a2 a3) (hc : c ≤ 20) (hp : post (nI (am_ms F T 0 64 c))) :
    wpX_mapped post (nI c, mk, a1, a2, a3, a4, a5, a6) := by
  unfold wpX_mapped
  exact am_mapIn (p := 0) (q := 64) hS hc (by omega) (by omega) hp
theorem am_areas {post : Int32 → Prop} {c mk : Int32} {a1 a2 a3 a4 a5 a6 : Nat → Int32} (hp : post c) : wpX_areas post (c, mk, a1, a2, a3, a4, a5, a6) := hp
end
section
def am_b (b : Bool) : Int32 := match b with
  | true => 1
  | false => 0
/-- the tail of a turn: the piece behind the span -/
theorem am_88 {post : Int32 → St2 → Prop} {J : Int32 → Int32 → Int32 → Int32 → (Nat → Int32) → (Nat → Int32) → (Nat → Int32) → (Nat → Int32) → (Nat → Int32) → (Nat → Int32) → Prop} {c i y : Nat} {F T : Nat → Nat} {x1 x3 x4 : Int32} {a1 a2 a3 a4 a5 a6 : Nat → Int32} {r : List (Nat × Nat)}
    (hS : am_src c F T a1 a2 a3) (hi : i < c) (hc : c ≤ 20) (hy : y ≤ 64) (hR : am_R r a4 a5 a6) (hl : r.length < 48)
    (hp : ∀ b4 b5 b6 : Nat → Int32, am_R (am_em r (max (F i) y) (T i)) b4 b5 b6 → J x4 (nI (i + 1)) (nI c) (nI (am_em r (max (F i) y) (T i)).length) a1 a2 a3 b4 b5 b6) :
    wX_rewrite_88 post J x1 (nI y) x3 x4 (nI i) (nI c) (nI r.length) a1 a2 a3 a4 a5 a6 := by
  obtain ⟨g1, g2, g3, g4, g5⟩ := hS i hi
  have c1 : (nI i).toNatClampNeg = i := nI_clamp (by omega)
  have i2 : vp_in (nI i) 20 := pk_in i 20 (by omega)
  refine ⟨i2, ?_⟩
  refine am_great (x := F i) (y := y) (by rw [c1, g1]) rfl (by omega) hy ⟨i2, i2, ?_⟩
  refine am_emit (x := max (F i) y) (y := T i) rfl (by rw [c1, g2]) (by rw [c1, g3]) hR hl (by omega) g5 (fun b4 b5 b6 hb => ?_)
  exact nm_r (nI_1 i) (hp b4 b5 b6 hb)
theorem am_step {post : Int32 → St2 → Prop} {c i x y : Nat} {F T : Nat → Nat} {k : Int32} {a1 a2 a3 a4 a5 a6 : Nat → Int32} (n : Nat) (s : Bool × List (Nat × Nat)) (hk : s.1 = false → k = 13)
    (hS : am_src c F T a1 a2 a3) (hi : i < c) (hc : c ≤ 6) (hx : x ≤ 64) (hy : y ≤ 64) (hR : am_R s.2 a4 a5 a6) (hl : s.2.length ≤ 3 * i)
    (hw : ∀ b4 b5 b6 : Nat → Int32, am_R (am_turn F T x y i s).2 b4 b5 b6 → wX_rewrite_20 post (nI x) (nI y) k n (am_b (am_turn F T x y i s).1) (nI (i + 1)) (nI c) (nI (am_turn F T x y i s).2.length) a1 a2 a3 b4 b5 b6) :
    wX_rewrite_20 post (nI x) (nI y) k (n + 1) (am_b s.1) (nI i) (nI c) (nI s.2.length) a1 a2 a3 a4 a5 a6 := by
  obtain ⟨b, r⟩ := s
  have hl' : r.length ≤ 3 * i := hl
  have hR' : am_R r a4 a5 a6 := hR
  obtain ⟨g1, g2, g3, g4, g5⟩ := hS i hi
  have c1 : (nI i).toNatClampNeg = i := nI_clamp (by omega)
  have i2 : vp_in (nI i) 20 := pk_in i 20 (by omega)
  have l1 := am_em_len r (F i) (min (T i) x)
  have l2 := am_em_len (am_em r (F i) (min (T i) x)) x y
  refine pk_le c i (fun z => absurd z (by omega)) (fun _ => ⟨i2, ?_⟩)
  refine am_least (x := T i) (y := x) (by rw [c1, g2]) rfl (by omega) hx ⟨i2, i2, ?_⟩
  refine am_emit (r := r) (x := F i) (y := min (T i) x) (by rw [c1, g1]) rfl (by rw [c1, g3]) hR' (by omega) (by omega) (by omega) (fun b4 b5 b6 hb => ?_)
  cases b with
  | true =>
    rw [am_turn_t] at hw
    exact br_f (show ¬ (1 : Int32) = 0 by decide) (am_88 hS hi (by omega) hy hb (by omega) hw)
  | false =>
    have hk' : k = 13 := hk rfl
    refine br_t (show (0 : Int32) = 0 from rfl) ⟨i2, ?_⟩
    refine pk_le (T i) x (fun z => ?_) (fun z => ?_) (by rw [c1, g2])
    · rw [am_turn_f0 z] at hw
      exact am_88 hS hi (by omega) hy hb (by omega) hw
    · rw [am_turn_f1 (by omega)] at hw
      refine am_emit (x := x) (y := y) rfl rfl hk' hb (by omega) hx hy (fun d4 d5 d6 hd => ?_)
      exact am_88 (x4 := 1) hS hi (by omega) hy hd (by omega) hw
theorem am_139 {post : Int32 → St2 → Prop} {c : Int32} {a1 a2 a3 a4 a5 a6 : Nat → Int32} {r : List (Nat × Nat)} (hR : am_R r a4 a5 a6) (hl : r.length ≤ 20)
    (hp : ∀ b1 b2 b3 b4 b5 b6 : Nat → Int32, am_R r b1 b2 b3 → post 1 (nI r.length, nI r.length, b1, b2, b3, b4, b5, b6)) :
    wX_rewrite_139 post c (nI r.length) a1 a2 a3 a4 a5 a6 :=
  am_commit hR hl (fun b1 b2 b3 hb => ⟨narrow_b1, hp b1 b2 b3 a4 a5 a6 hb⟩)
theorem am_loop {post : Int32 → St2 → Prop} {c x y : Nat} {F T : Nat → Nat} {k : Int32} {a1 a2 a3 a4 a5 a6 : Nat → Int32} (b : Bool) (hk : b = false → k = 13)
    (hS : am_src c F T a1 a2 a3) (hc : c ≤ 6) (hx : x ≤ 64) (hy : y ≤ 64)
    (hp : ∀ b1 b2 b3 b4 b5 b6 : Nat → Int32, am_R (am_fin x y (am_run F T x y b c)) b1 b2 b3 → post 1 (nI (am_fin x y (am_run F T x y b c)).length, nI (am_fin x y (am_run F T x y b c)).length, b1, b2, b3, b4, b5, b6)) :
    ∃ n, wX_rewrite_20 post (nI x) (nI y) k n (am_b b) 0 (nI c) 0 a1 a2 a3 a4 a5 a6 := by
  have hbk : ∀ i, (am_run F T x y b i).1 = false → b = false := by
    intro i
    induction i with
    | zero => exact fun h => h
    | succ i ih =>
      intro h
      apply ih
      have h' : (am_turn F T x y i (am_run F T x y b i)).1 = false := h
      generalize am_run F T x y b i = s at h'
      obtain ⟨d, r⟩ := s
      cases d with
      | false => rfl
      | true => exact h'
  refine pk_loop (fun n i (s : (Nat → Int32) × (Nat → Int32) × (Nat → Int32)) => wX_rewrite_20 post (nI x) (nI y) k n (am_b (am_run F T x y b i).1) (nI i) (nI c) (nI (am_run F T x y b i).2.length) a1 a2 a3 s.1 s.2.1 s.2.2) (fun i s => am_R (am_run F T x y b i).2 s.1 s.2.1 s.2.2) c 0 (a4, a5, a6) (by omega) trivial ?_ ?_
  · intro n s h
    have hl := am_run_len F T x y b c
    have hk' : (am_run F T x y b c).1 = false → k = 13 := fun z => hk (hbk c z)
    generalize am_run F T x y b c = u at h hp hl hk' ⊢
    obtain ⟨d, r⟩ := u
    dsimp only at h hl hk' ⊢
    refine pk_le c c (fun _ => ?_) (fun z => absurd z (by omega))
    cases d with
    | true => exact br_f (show ¬ (1 : Int32) = 0 by decide) (am_139 h (by omega) hp)
    | false =>
      refine br_t (show (0 : Int32) = 0 from rfl) ?_
      exact am_emit (x := x) (y := y) rfl rfl (hk' rfl) h (by omega) hx hy (fun d4 d5 d6 hd => am_139 hd (by have := am_em_len r x y; omega) hp)
  · intro n i s hi h hw
    exact am_step n (am_run F T x y b i) (fun z => hk (hbk i z)) hS hi hc hx hy h (am_run_len F T x y b i) (fun b4 b5 b6 hb => hw (b4, b5, b6) hb)
theorem am_rewrite {post : Int32 → St2 → Prop} {c x y : Nat} {F T : Nat → Nat} {mk z0 z1 z2 : Int32} {a1 a2 a3 a4 a5 a6 : Nat → Int32} (b : Bool) (e0 : z0 = nI x) (e1 : z1 = nI y) (hk : (b = true ∧ z2 = -1) ∨ (b = false ∧ z2 = 13))
    (hS : am_src c F T a1 a2 a3) (hc : c ≤ 6) (hx : x ≤ 64) (hy : y ≤ 64)
    (hp : ∀ b1 b2 b3 b4 b5 b6 : Nat → Int32, am_R (am_fin x y (am_run F T x y b c)) b1 b2 b3 → post 1 (nI (am_fin x y (am_run F T x y b c)).length, nI (am_fin x y (am_run F T x y b c)).length, b1, b2, b3, b4, b5, b6)) :
    wpX_rewrite post (nI c, mk, a1, a2, a3, a4, a5, a6) z0 z1 z2 := by
  subst e0 e1
  rcases hk with ⟨rfl, rfl⟩ | ⟨rfl, rfl⟩
  · exact br_t rfl (am_loop true (fun z => absurd z (by decide)) hS hc hx hy hp)
  · exact br_f (by decide) (am_loop false (fun _ => rfl) hS hc hx hy hp)
theorem am_proper {post : Int32 → Prop} {x n : Nat} (hn : 1 ≤ n) (h : x + n ≤ 64) (hp : post 1) : wpX_isProper post () (nI x) (nI n) :=
  pk_lt x 0 (fun z => absurd z (by omega)) (fun _ => pk_le 64 x (fun z => absurd z (by omega)) (fun _ => pk_lt n 1 (fun z => absurd z (by omega)) (fun _ => pk_lt (64 - x) n (fun z => absurd z (by omega)) (fun _ => hp) (pk_sub (a := 64) (by omega)))))
theorem am_kind {post : Int32 → Prop} (hp : post 1) : wpX_isKind post () 13 :=
  br_f (by decide) (br_f (by decide) hp)
theorem am_map {post : Int32 → St2 → Prop} {c x l : Nat} {F T : Nat → Nat} {mk : Int32} {a1 a2 a3 a4 a5 a6 : Nat → Int32} (hS : am_src c F T a1 a2 a3) (hc : c ≤ 6) (hl : 1 ≤ l) (hx : x + l ≤ 64)
    (hp : ∀ (q : Int32) (b1 b2 b3 b4 b5 b6 : Nat → Int32), am_R (am_fin x (x + l) (am_run F T x (x + l) false c)) b1 b2 b3 → post q (nI (am_fin x (x + l) (am_run F T x (x + l) false c)).length, nI (am_fin x (x + l) (am_run F T x (x + l) false c)).length, b1, b2, b3, b4, b5, b6)) :
    wpX_map post (nI c, mk, a1, a2, a3, a4, a5, a6) (nI x) (nI l) 13 := by
  unfold wpX_map
  refine am_proper hl hx ?_
  refine br_f (by decide) ?_
  refine am_kind ?_
  refine br_f (by decide) ?_
  rw [nI_add]
  refine am_mapIn hS (by omega) (by omega) hx ?_
  exact am_rewrite false rfl rfl (Or.inr ⟨rfl, rfl⟩) hS hc (by omega) hx (fun b1 b2 b3 b4 b5 b6 hb => br_f (by decide) (hp _ b1 b2 b3 b4 b5 b6 hb))
theorem am_free {post : Int32 → St2 → Prop} {c x l : Nat} {F T : Nat → Nat} {mk : Int32} {a1 a2 a3 a4 a5 a6 : Nat → Int32} (hS : am_src c F T a1 a2 a3) (hc : c ≤ 6) (hl : 1 ≤ l) (hx : x + l ≤ 64)
    (hp : ∀ (b1 b2 b3 b4 b5 b6 : Nat → Int32), am_R (am_fin x (x + l) (am_run F T x (x + l) true c)) b1 b2 b3 → post (nI (am_ms F T x (x + l) c)) (nI (am_fin x (x + l) (am_run F T x (x + l) true c)).length, nI (am_fin x (x + l) (am_run F T x (x + l) true c)).length, b1, b2, b3, b4, b5, b6)) :
    wpX_free post (nI c, mk, a1, a2, a3, a4, a5, a6) (nI x) (nI l) := by
  unfold wpX_free
  refine am_proper hl hx ?_
  refine br_f (by decide) ?_
  rw [nI_add]
  refine am_mapIn hS (by omega) (by omega) hx ?_
  exact am_rewrite true rfl rfl (Or.inl ⟨rfl, rfl⟩) hS hc (by omega) hx (fun b1 b2 b3 b4 b5 b6 hb => br_f (by decide) (hp b1 b2 b3 b4 b5 b6 hb))
theorem am_lt3 {a b n : Nat} (ha : a ≤ 64) (hb : b ≤ 64) (hn : n ≤ 64) : nI a - nI b < nI n ↔ a < b + n := by
  rw [Int32.lt_iff_toInt_lt, pk_sub_toInt (by omega) (by omega), nI_toInt (by omega)]
  omega
theorem am_room {post : Int32 → Prop} {c b n m : Nat} {F T : Nat → Nat} {mk : Int32} {a1 a2 a3 a4 a5 a6 : Nat → Int32} (hS : am_src c F T a1 a2 a3) (hc : c ≤ 20) (hb : b ≤ 47) (hn : 1 ≤ n) (hn8 : n ≤ 8) (hT : ∀ j, j < c → T j ≤ 47) (hs : ∀ i j, i < j → j < c → F i ≤ F j) (hf : ∀ j, j < c → T j ≤ b ∨ b + m ≤ F j)
    (hp : ∀ f, f ≤ 47 → (∀ j, j < c → T j ≤ f ∨ f + n ≤ F j) → (n ≤ m → f = b) → post (nI f)) :
    wpX_room post (nI c, mk, a1, a2, a3, a4, a5, a6) (nI b) (nI n) := by
  refine pk_loop (fun k i (s : Nat) => wX_room_5 post (nI n) (nI c) mk a1 a2 a3 a4 a5 a6 k (nI s) (nI i)) (fun i s => s ≤ 47 ∧ (∀ j, j < i → T j ≤ s) ∧ (n ≤ m → s = b)) c 0 b (by omega) ⟨hb, fun j hj => absurd hj (by omega), fun _ => rfl⟩ ?_ ?_
  · intro k s h
    obtain ⟨h1, h2, h3⟩ := h
    exact pk_le c c (fun _ => pk_lt (64 - s) n (fun z => absurd z (by omega)) (fun _ => hp s h1 (fun j hj => Or.inl (h2 j hj)) h3) (pk_sub (a := 64) (by omega))) (fun z => absurd z (by omega))
  · intro k i s hi h hw
    obtain ⟨h1, h2, h3⟩ := h
    obtain ⟨g1, g2, g3, g4, g5⟩ := hS i hi
    have c1 : (nI i).toNatClampNeg = i := nI_clamp (by omega)
    have i2 : vp_in (nI i) 20 := pk_in i 20 (by omega)
    have t1 := hT i hi
    refine pk_le c i (fun z => absurd z (by omega)) (fun _ => ⟨i2, ?_⟩)
    rw [c1, g1, g2]
    refine pk_le (T i) s (fun z => nm_r (nI_1 i) (hw s ⟨h1, lt_s h2 z, h3⟩)) (fun z => ⟨i2, ?_⟩)
    refine ek_if (am_lt3 (a := F i) (b := s) (n := n) (by omega) (by omega) (by omega)) (fun w => ⟨i2, nm_e (nm_r (nI_1 i) (hw (T i) ⟨t1, lt_s (fun j hj => ?_) (Nat.le_refl _), fun q => ?_⟩))⟩) (fun w => hp s h1 (fun j hj => ?_) h3)
    · have := h2 j hj
      omega
    · have e := h3 q
      have := hf i hi
      omega
    · by_cases e : j < i
      · exact Or.inl (h2 j e)
      · right
        by_cases e' : j = i
        · rw [e']
          omega
        · have := hs i j (by omega) hj
          omega
theorem am_place {post : Int32 → St2 → Prop} {c b n m : Nat} {F T : Nat → Nat} {mk : Int32} {a1 a2 a3 a4 a5 a6 : Nat → Int32} (hS : am_src c F T a1 a2 a3) (hc : c ≤ 6) (hb : b ≤ 47) (hn : 1 ≤ n) (hn8 : n ≤ 8) (hT : ∀ j, j < c → T j ≤ 47) (hs : ∀ i j, i < j → j < c → F i ≤ F j) (hf : ∀ j, j < c → T j ≤ b ∨ b + m ≤ F j)
    (hp : ∀ f, f ≤ 47 → (∀ j, j < c → T j ≤ f ∨ f + n ≤ F j) → (n ≤ m → f = b) → ∀ (b1 b2 b3 b4 b5 b6 : Nat → Int32), am_R (am_fin f (f + n) (am_run F T f (f + n) false c)) b1 b2 b3 → post (nI f) (nI (am_fin f (f + n) (am_run F T f (f + n) false c)).length, nI (am_fin f (f + n) (am_run F T f (f + n) false c)).length, b1, b2, b3, b4, b5, b6)) :
    wpX_place post (nI c, mk, a1, a2, a3, a4, a5, a6) (nI b) (nI n) 13 := by
  refine pk_lt n 1 (fun z => absurd z (by omega)) (fun _ => pk_lt b 0 (fun z => absurd z (by omega)) (fun _ => pk_le 64 b (fun z => absurd z (by omega)) (fun _ => am_kind (br_f (show ¬ (1 : Int32) = 0 by decide) (pk_le n 64 (fun _ => ?_) (fun z => absurd z (by omega)))))))
  refine am_room (m := m) hS (by omega) hb hn hn8 hT hs hf (fun f h1 h2 h3 => ?_)
  refine pk_le 0 f (fun _ => pk_le 0 f (fun _ => ?_) (fun z => absurd z (by omega))) (fun z => absurd z (by omega))
  exact am_rewrite false rfl (nI_add f n) (Or.inr ⟨rfl, rfl⟩) hS hc (by omega) (by omega) (fun b1 b2 b3 b4 b5 b6 hb => br_f (by decide) (hp f h1 h2 h3 b1 b2 b3 b4 b5 b6 hb))
end
section
theorem am_198 {post : Int32 → St0 → Prop} {mc ms kc ks : Nat} {l b m n both left d got all : Nat} (h1 : left + both = l) (h2 : all = left + n) (h3 : n ≤ m → got = b) (hl : l ≤ 64) (hn : n ≤ 64) (hm : m ≤ 64) (hb : b ≤ 64) (hd : d ≤ 2) (hg : got ≤ 64) (hp : post 1 ()) :
    wL_lawOf_198 post mc ms (nI l) (nI b) (nI m) (nI n) (nI both) (nI left) (nI d) (nI got) (nI all) (nI both) (nI d) kc ks := by
  refine br_t rfl (br_t ?_ (br_t rfl (br_t ?_ ?_)))
  · rw [pk_sub (show both ≤ l by omega), show l - both = left by omega]
  · rw [nI_add, h2]
  · exact pk_lt m n (fun _ => hp) (fun z => pk_eq got b (fun _ => hp) (fun w => absurd (h3 z) w))
theorem am_143 {post : Int32 → St0 → Prop} {mc ms kc ks : Nat} {a l b m n both left d got all : Nat} (h1 : left + both = l) (h2 : all = left + n) (h3 : n ≤ m → got = b) (hl : l ≤ 16) (hn : n ≤ 64) (hm : m ≤ 16) (hb : b ≤ 31) (ha : a ≤ 31) (hd : d ≤ 2) (hg : got ≤ 64)
    (d0 : both = l → d = 0) (d2 : both ≠ l → (0 < both ∧ a < b ∧ b + m < a + l) → d = 2) (d1 : both ≠ l → ¬ (0 < both ∧ a < b ∧ b + m < a + l) → d = 1) (hp : post 1 ()) :
    wL_lawOf_143 post mc ms (nI a) (nI l) (nI b) (nI m) (nI n) (nI both) (nI left) (nI d) (nI got) (nI all) (nI both) kc ks := by
  have K := am_198 (post := post) (mc := mc) (ms := ms) (kc := kc) (ks := ks) (d := d) h1 h2 h3 (by omega) hn (by omega) (by omega) hd hg hp
  have A : ¬ (0 < both ∧ a < b ∧ b + m < a + l) → wL_lawOf_174 post mc ms (nI l) (nI b) (nI m) (nI n) (nI both) (nI left) (nI d) (nI got) (nI all) (nI both) kc ks := by
    intro z
    refine pk_eq both l (fun e => ?_) (fun e => br_t rfl ?_)
    · rw [d0 e] at K ⊢
      exact K
    · rw [d1 e z] at K ⊢
      exact K
  refine pk_le both 0 (fun z => A (fun t => absurd t.1 (by omega))) (fun z => pk_le b a (fun w => A (fun t => absurd t.2.1 (by omega))) (fun w => ?_))
  refine pk_le (a + l) (b + m) (fun v => A (fun t => absurd t.2.2 (by omega))) (fun v => ?_) (nI_add a l) (nI_add b m)
  refine pk_eq both l (fun e => ?_) (fun e => br_f (by decide) ?_)
  · rw [d0 e] at K ⊢
    exact K
  · rw [d2 e ⟨z, w, v⟩] at K ⊢
    exact K
/-- what is left of one area: its length, its pages, and where its pieces lie -/
theorem am_facts {a l b m : Nat} (hl : 1 ≤ l) (hm : 1 ≤ m) {a1 a2 a3 : Nat → Int32} (hR : am_R (am_cut a l b m) a1 a2 a3) :
    (am_cut a l b m).length ≤ 2 ∧ am_sum (am_cut a l b m) + (min (a + l) (b + m) - max a b) = l ∧
    (∀ j, j < (am_cut a l b m).length → am_F a2 j ≤ a + l ∧ (am_F a2 j ≤ b ∨ b + m ≤ am_F a1 j)) ∧
    (∀ i j, i < j → j < (am_cut a l b m).length → am_F a1 i ≤ am_F a1 j) ∧
    ((min (a + l) (b + m) - max a b) = l → (am_cut a l b m).length = 0) ∧
    ((min (a + l) (b + m) - max a b) ≠ l → (0 < (min (a + l) (b + m) - max a b) ∧ a < b ∧ b + m < a + l) → (am_cut a l b m).length = 2) ∧
    ((min (a + l) (b + m) - max a b) ≠ l → ¬ (0 < (min (a + l) (b + m) - max a b) ∧ a < b ∧ b + m < a + l) → (am_cut a l b m).length = 1) := by
  have cl : ∀ (g : Nat → Int32) (j v : Nat), v ≤ 64 → g j = nI v → am_F g j = v := by
    intro g j v hv e
    unfold am_F
    rw [e]
    exact nI_clamp (by omega)
  by_cases h1 : a < b
  · by_cases h2 : b + m < a + l
    · rw [am_cut_A hm h1 h2] at hR ⊢
      obtain ⟨r1, r2, r3, r4, r5, s1, s2, s3, s4, s5, s6⟩ := hR
      have e1 : am_F a1 1 = b + m := cl a1 1 _ (by omega) r1
      have e2 : am_F a2 1 = a + l := cl a2 1 _ (by omega) r2
      have e3 : am_F a1 0 = a := cl a1 0 _ (by omega) s1
      have e4 : am_F a2 0 = b := cl a2 0 _ (by omega) s2
      refine ⟨Nat.le_refl 2, ?_, ?_, ?_, ?_, ?_, ?_⟩
      · show 0 + (b - a) + (a + l - (b + m)) + (min (a + l) (b + m) - max a b) = l
        omega
      · intro j hj
        have hj' : j < 2 := hj
        rcases (show j = 0 ∨ j = 1 by omega) with rfl | rfl
        · rw [e3, e4]; omega
        · rw [e1, e2]; omega
      · intro i j hij hj
        have hj' : j < 2 := hj
        obtain ⟨rfl, rfl⟩ : i = 0 ∧ j = 1 := ⟨by omega, by omega⟩
        rw [e1, e3]; omega
      · intro z; exact absurd z (by omega)
      · intro _ _; rfl
      · intro z w; exact absurd w (by omega)
    · rw [am_cut_B hl h1 (by omega)] at hR ⊢
      obtain ⟨r1, r2, r3, r4, r5, r6⟩ := hR
      have e1 : am_F a1 0 = a := cl a1 0 _ (by omega) r1
      have e2 : am_F a2 0 = min (a + l) b := cl a2 0 _ (by omega) r2
      refine ⟨show 1 ≤ 2 by omega, ?_, ?_, ?_, ?_, ?_, ?_⟩
      · show 0 + (min (a + l) b - a) + (min (a + l) (b + m) - max a b) = l
        omega
      · intro j hj
        have hj' : j < 1 := hj
        obtain rfl : j = 0 := by omega
        rw [e1, e2]; omega
      · intro i j hij hj
        have hj' : j < 1 := hj
        omega
      · intro z; exact absurd z (by omega)
      · intro z w; exact absurd w.2.2 h2
      · intro _ _; rfl
  · by_cases h2 : max a (b + m) < a + l
    · rw [am_cut_C (by omega) h2] at hR ⊢
      obtain ⟨r1, r2, r3, r4, r5, r6⟩ := hR
      have e1 : am_F a1 0 = max a (b + m) := cl a1 0 _ (by omega) r1
      have e2 : am_F a2 0 = a + l := cl a2 0 _ (by omega) r2
      refine ⟨show 1 ≤ 2 by omega, ?_, ?_, ?_, ?_, ?_, ?_⟩
      · show 0 + (a + l - max a (b + m)) + (min (a + l) (b + m) - max a b) = l
        omega
      · intro j hj
        have hj' : j < 1 := hj
        obtain rfl : j = 0 := by omega
        rw [e1, e2]; omega
      · intro i j hij hj
        have hj' : j < 1 := hj
        omega
      · intro z; exact absurd z (by omega)
      · intro z w; exact absurd w.2.1 h1
      · intro _ _; rfl
    · rw [am_cut_D (by omega) (by omega)] at hR ⊢
      refine ⟨Nat.zero_le 2, ?_, ?_, ?_, ?_, ?_, ?_⟩
      · show 0 + (min (a + l) (b + m) - max a b) = l
        omega
      · intro j hj; exact absurd hj (Nat.not_lt_zero j)
      · intro i j hij hj; exact absurd hj (Nat.not_lt_zero j)
      · intro _; rfl
      · intro z w; exact absurd w.2.1 h1
      · intro z w; exact absurd (show min (a + l) (b + m) - max a b = l by omega) z
theorem am_min {post : Int32 → Prop} {z0 z1 : Int32} {x y : Nat} (e0 : z0 = nI x) (e1 : z1 = nI y) (hx : x ≤ 64) (hy : y ≤ 64) (hp : post (nI (min x y))) : wpL_min post () z0 z1 := by
  subst e0 e1
  refine pk_le y x (fun h => ?_) (fun h => ?_)
  · rw [show min x y = y by omega] at hp
    exact hp
  · rw [show min x y = x by omega] at hp
    exact hp
theorem am_max {post : Int32 → Prop} {z0 z1 : Int32} {x y : Nat} (e0 : z0 = nI x) (e1 : z1 = nI y) (hx : x ≤ 64) (hy : y ≤ 64) (hp : post (nI (max x y))) : wpL_max post () z0 z1 := by
  subst e0 e1
  refine pk_le x y (fun h => ?_) (fun h => ?_)
  · rw [show max x y = y by omega] at hp
    exact hp
  · rw [show max x y = x by omega] at hp
    exact hp
theorem am_lawOf {post : Int32 → St0 → Prop} (p0 p1 p2 p3 p4 : Int32) (hp : post 1 ()) : wpL_lawOf post 46 720 () p0 p1 p2 p3 p4 := by
  obtain ⟨a, ha, ea⟩ := pk_andE p0 (m := 31) 5 (by decide)
  obtain ⟨l0, hl, el⟩ := pk_andE p1 (m := 15) 4 (by decide)
  obtain ⟨b, hb, eb⟩ := pk_andE p2 (m := 31) 5 (by decide)
  obtain ⟨m0, hm, em⟩ := pk_andE p3 (m := 15) 4 (by decide)
  obtain ⟨n0, hn, en⟩ := pk_andE p4 (m := 7) 3 (by decide)
  have el' : 1 + (p1 &&& 15) = nI (1 + l0) := by rw [el]; exact nI_add 1 l0
  have em' : 1 + (p3 &&& 15) = nI (1 + m0) := by rw [em]; exact nI_add 1 m0
  have en' : 1 + (p4 &&& 7) = nI (1 + n0) := by rw [en]; exact nI_add 1 n0
  have hl1 : 1 ≤ 1 + l0 := by omega
  have hl2 : 1 + l0 ≤ 16 := by omega
  have hm1 : 1 ≤ 1 + m0 := by omega
  have hm2 : 1 + m0 ≤ 16 := by omega
  have hn1 : 1 ≤ 1 + n0 := by omega
  have hn2 : 1 + n0 ≤ 8 := by omega
  have ha2 : a ≤ 31 := by omega
  have hb2 : b ≤ 31 := by omega
  generalize 1 + l0 = l at el' hl1 hl2
  generalize 1 + m0 = m at em' hm1 hm2
  generalize 1 + n0 = n at en' hn1 hn2
  refine ⟨by decide, by decide, 45, 712, by decide, by decide, ?_⟩
  refine ⟨by decide, by decide, by decide, by decide, by decide, by decide, by decide, by decide, by decide, by decide, by decide, by decide, ?_⟩
  refine nm_r ea (nm_r el' (nm_r eb (nm_r em' (nm_r en' ?_))))
  refine am_map (c := 0) (F := fun _ => 0) (T := fun _ => 0) (fun j hj => absurd hj (Nat.not_lt_zero j)) (by omega) hl1 (by omega) (fun q a1 a2 a3 a4 a5 a6 hR => ?_)
  have e1 : am_fin a (a + l) (am_run (fun _ => 0) (fun _ => 0) a (a + l) false 0) = [(a, a + l)] := by
    show am_em [] a (a + l) = [(a, a + l)]
    exact am_em_0 (by omega)
  rw [e1] at hR ⊢
  have hS := am_R_src hR
  obtain ⟨r1, r2, r3, r4, r5, r6⟩ := hR
  have f1 : am_F a1 0 = a := by
    unfold am_F
    rw [show a1 0 = nI a from r1]
    exact nI_clamp (by omega)
  have f2 : am_F a2 0 = a + l := by
    unfold am_F
    rw [show a2 0 = nI (a + l) from r2]
    exact nI_clamp (by omega)
  refine am_free (c := 1) hS (by omega) hm1 (by omega) (fun b1 b2 b3 b4 b5 b6 hB => ?_)
  have e2 : am_fin b (b + m) (am_run (am_F a1) (am_F a2) b (b + m) true 1) = am_cut a l b m := by
    show am_em (am_em [] (am_F a1 0) (min (am_F a2 0) b)) (max (am_F a1 0) (b + m)) (am_F a2 0) = am_cut a l b m
    unfold am_cut
    rw [f1, f2]
  have e3 : am_ms (am_F a1) (am_F a2) b (b + m) 1 = min (a + l) (b + m) - max a b := by
    show 0 + (min (am_F a2 0) (b + m) - max (am_F a1 0) b) = _
    rw [f1, f2, Nat.zero_add]
  rw [e2] at hB ⊢
  rw [e3]
  obtain ⟨k1, k2, k3, k4, k5, k6, k7⟩ := am_facts hl1 hm1 hB
  have hSB := am_R_src hB
  have hMB := am_R_ms hB
  generalize am_cut a l b m = r at hB k1 k2 k3 k4 k5 k6 k7 hSB hMB ⊢
  refine am_mapped hSB (by omega) ?_
  rw [hMB]
  refine am_areas ?_
  refine am_place (m := m) hSB (by omega) (by omega) hn1 hn2 (fun j hj => by have := (k3 j hj).1; omega) k4 (fun j hj => (k3 j hj).2) (fun f g1 g2 g3 d1 d2 d3 d4 d5 d6 hD => ?_)
  have hsum := am_fin_sum (F := am_F b1) (T := am_F b2) (x := f) (n := n) (c := r.length) (fun j hj => ⟨(hSB j hj).2.2.2.1, (hSB j hj).2.2.2.2⟩) (by omega) g2
  have hlen := am_fin_len f (f + n) (am_run (am_F b1) (am_F b2) f (f + n) false r.length)
  have hlen2 := am_run_len (am_F b1) (am_F b2) f (f + n) false r.length
  rw [hMB] at hsum
  generalize am_fin f (f + n) (am_run (am_F b1) (am_F b2) f (f + n) false r.length) = r' at hD hsum hlen ⊢
  refine am_mapped (am_R_src hD) (by omega) ?_
  rw [am_R_ms hD, hsum]
  have Z : ∀ kc ks, wL_lawOf_143 post 46 720 (nI a) (nI l) (nI b) (nI m) (nI n) (nI (min (a + l) (b + m) - max a b)) (nI (am_sum r)) (nI r.length) (nI f) (nI (am_sum r + n)) (nI (min (a + l) (b + m) - max a b)) kc ks := fun kc ks =>
    am_143 k2 rfl g3 hl2 (by omega) hm2 hb2 ha2 k1 (by omega) k5 k6 k7 hp
  refine am_max (x := a) (y := b) rfl rfl (by omega) (by omega) (am_min (x := a + l) (y := b + m) (nI_add a l) (nI_add b m) (by omega) (by omega) ?_)
  refine pk_le (min (a + l) (b + m)) (max a b) (fun z => ?_) (fun z => ?_)
  · have Z' := Z (1 + 45) (8 + 712)
    rw [show min (a + l) (b + m) - max a b = 0 by omega] at Z' ⊢
    exact Z'
  · rw [pk_sub (show max a b ≤ min (a + l) (b + m) by omega)]
    exact Z _ _
theorem am_cell {post : Int32 → Prop} {L : Nat} {xs : Nat → Int32} (k : Nat) {z : Int32} (e : z = nI k) (hL : L ≤ 5) (hk : k < 5) (hp : ∀ v, post v) : wpL_cellAt post L xs () z := by
  subst e
  exact pk_le L k (fun _ => hp _) (fun h => ⟨pk_in k L h, hp _⟩)
theorem i_vc (xs : Nat → Int32) (L : Nat) (hL : L ≤ 5) : wpL_law (fun r => r = 1) L xs :=
  am_cell 0 rfl hL (by decide) (fun v0 => am_cell 1 rfl hL (by decide) (fun v1 => am_cell 2 rfl hL (by decide) (fun v2 => am_cell 3 rfl hL (by decide) (fun v3 => am_cell 4 rfl hL (by decide) (fun v4 =>
    ⟨46, 720, by decide, by decide, am_lawOf v0 v1 v2 v3 v4 rfl⟩)))))
end
