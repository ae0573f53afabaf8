section
/-! the field of eight symbols, over naturals -/
theorem sm_xor (a b : Nat) : nI a ^^^ nI b = nI (a ^^^ b) := by
  apply Int32.toBitVec_inj.1
  show BitVec.ofNat 32 a ^^^ BitVec.ofNat 32 b = BitVec.ofNat 32 (a ^^^ b)
  apply BitVec.eq_of_getLsbD_eq
  intro i hi
  simp [hi]
/-- powers of 2; place 14 is what the maker's loop leaves in x -/
def sm_pw (k : Nat) : Nat := [1, 2, 4, 3, 6, 7, 5, 1, 2, 4, 3, 6, 7, 5, 1].getD k 0
/-- exponents -/
def sm_ex (k : Nat) : Nat := [0, 0, 1, 3, 2, 6, 4, 5].getD k 0
def sm_mul (a b : Nat) : Nat := if a = 0 then 0 else if b = 0 then 0 else sm_pw (sm_ex a + sm_ex b)
theorem sm_mul_lt : ∀ a, a < 8 → ∀ b, b < 8 → sm_mul a b < 8 := by decide +kernel
theorem sm_ex_lt : ∀ k, k < 8 → sm_ex k < 7 := by decide +kernel
theorem sm_pw_lt : ∀ k, k < 15 → sm_pw k < 8 := by decide +kernel
theorem sm_xlt {a b : Nat} (ha : a < 8) (hb : b < 8) : a ^^^ b < 8 := Nat.xor_lt_two_pow (n := 3) ha hb
/-- the value at x by Horner's rule: i places are still to come, s is the sum so far -/
def sm_hor (w : Nat → Nat) (x : Nat) : Nat → Nat → Nat
  | 0, s => s
  | i + 1, s => sm_hor w x i (sm_mul s x ^^^ w i)
theorem sm_hor_lt {w : Nat → Nat} {x : Nat} (hw : ∀ j, j < 7 → w j < 8) (hx : x < 8) : ∀ i s, i ≤ 7 → s < 8 → sm_hor w x i s < 8 := by
  intro i
  induction i with
  | zero => exact fun s _ h => h
  | succ i ih => exact fun s hi h => ih _ (by omega) (sm_xlt (sm_mul_lt s h x hx) (hw i (by omega)))
/-- one turn of the division -/
def sm_st (w : Nat) (r : Nat × Nat × Nat × Nat) : Nat × Nat × Nat × Nat :=
  (sm_mul (w ^^^ r.2.2.2) 3, r.1 ^^^ sm_mul (w ^^^ r.2.2.2) 2, r.2.1 ^^^ (w ^^^ r.2.2.2), r.2.2.1 ^^^ sm_mul (w ^^^ r.2.2.2) 3)
/-- what is left of the three upper places -/
def sm_r (a b c : Nat) : Nat × Nat × Nat × Nat := sm_st a (sm_st b (sm_st c (0, 0, 0, 0)))
/-- the word that is sent -/
def sm_wd (a b c j : Nat) : Nat := [(sm_r a b c).1, (sm_r a b c).2.1, (sm_r a b c).2.2.1, (sm_r a b c).2.2.2, a, b, c].getD j 0
theorem sm_r_lt : ∀ c, c < 8 → ∀ b, b < 8 → (sm_st c (0, 0, 0, 0)).2.2.2 < 8 ∧ (sm_st b (sm_st c (0, 0, 0, 0))).2.2.2 < 8 := by decide +kernel
theorem sm_wd_lt : ∀ a, a < 8 → ∀ b, b < 8 → ∀ c, c < 8 → ∀ j, j < 7 → sm_wd a b c j < 8 := by decide +kernel
/-- it is a code word: 0 at the four roots -/
theorem sm_code : ∀ a, a < 8 → ∀ b, b < 8 → ∀ c, c < 8 → ∀ j, j < 5 → 1 ≤ j → sm_hor (sm_wd a b c) (sm_pw j) 7 0 = 0 := by decide +kernel
/-- what the law asks of products -/
theorem sm_up : ∀ a, a < 8 → ((nI a <<< ((1 : Int32) &&& 31)) &&& 7) ^^^ ((nI a >>> ((2 : Int32) &&& 31)) * 3) = nI (sm_mul a 2) := by decide +kernel
theorem sm_two : ∀ a, a < 8 → ((nI (sm_mul a 2) <<< ((1 : Int32) &&& 31)) &&& 7) ^^^ ((nI (sm_mul a 2) >>> ((2 : Int32) &&& 31)) * 3) = nI (sm_mul 4 a) := by decide +kernel
theorem sm_due : ∀ a, a < 8 → ∀ b, b < 8 → (((if nI b &&& 1 = 0 then 0 else nI a) ^^^ (if nI b &&& 2 = 0 then 0 else nI (sm_mul a 2))) ^^^ (if nI b &&& 4 = 0 then 0 else nI (sm_mul 4 a))) = nI (sm_mul a b) := by decide +kernel
/-- an array filled one place further -/
theorem sm_fill {f s : Nat → Int32} {i k : Nat} {x : Int32} (hk : k = i) (h : ∀ j, j < i → s j = f j) (hx : x = f i) : ∀ j, j < i + 1 → upd s k x j = f j := by
  intro j hj
  rw [hk]
  by_cases e : j = i
  · rw [e, pk_us, hx]
  · rw [pk_un e]
    exact h j (by omega)
/-- the tables as the maker leaves them -/
def sm_T (a3 a4 : Nat → Int32) : Prop := (∀ k, k < 14 → a3 k = nI (sm_pw k)) ∧ (∀ k, k < 8 → a4 k = nI (sm_ex k))
/-- the two tables behind i turns of the maker's loop -/
def sm_A : Nat → Nat → Int32
  | 0 => fun _ => 0
  | i + 1 => upd (sm_A i) i (nI (sm_pw i))
def sm_B : Nat → Nat → Int32
  | 0 => fun _ => 0
  | i + 1 => if i < 7 then upd (sm_B i) (sm_pw i) (nI i) else sm_B i
theorem sm_tab : sm_T (sm_A 14) (sm_B 14) := ⟨by decide +kernel, by decide +kernel⟩
theorem sm_next : ∀ i, i < 14 → ((nI (sm_pw i) < 4 → 2 * nI (sm_pw i) = nI (sm_pw (i + 1))) ∧ (¬ nI (sm_pw i) < 4 → ((2 * nI (sm_pw i)) - 8) ^^^ 3 = nI (sm_pw (i + 1)))) := by decide +kernel
end
section
/-! the small methods: symbols, products, values, division, sending -/
section
variable {f0 f1 : Int32} {a1 a2 a3 a4 a5 a6 a7 a8 a9 a10 : Nat → Int32}
theorem sm_sym {post : Int32 → Prop} {x : Int32} (a : Nat) (ha : a < 8) (hp : post 1) (hx : x = nI a := by rfl) : wpX_isSymbol post () x := by
  subst hx
  exact br_f (nI_pos (by omega)) (br_f (nI_nlt (b := a) (a := 7) (by omega) (by omega)) hp)
theorem sm_place {post : Int32 → Prop} {x : Int32} (a : Nat) (ha : a < 7) (hp : post 1) (hx : x = nI a := by rfl) : wpX_isPlace post () x := by
  subst hx
  exact br_f (nI_pos (by omega)) (br_f (nI_nlt (b := a) (a := 6) (by omega) (by omega)) hp)
theorem sm_times {post : Int32 → Prop} {x y : Int32} (a b : Nat) (T : sm_T a3 a4) (ha : a < 8) (hb : b < 8) (hp : post (nI (sm_mul a b))) (hx : x = nI a := by rfl) (hy : y = nI b := by rfl) : wpX_times post (f0, f1, a1, a2, a3, a4, a5, a6, a7, a8, a9, a10) x y := by
  subst hx hy
  refine pk_eq a 0 (fun z => ?_) (fun z => pk_eq b 0 (fun z' => ?_) (fun z' => ⟨pk_in a 8 ha, pk_in b 8 hb, ?_⟩))
  · have e : sm_mul a b = 0 := if_pos z
    rw [e] at hp
    exact hp
  · have e : sm_mul a b = 0 := by rw [sm_mul, if_neg z, if_pos z']
    rw [e] at hp
    exact hp
  · have e : sm_mul a b = sm_pw (sm_ex a + sm_ex b) := by rw [sm_mul, if_neg z, if_neg z']
    have h1 := sm_ex_lt a ha
    have h2 := sm_ex_lt b hb
    rw [nI_clamp (show a < 2 ^ 31 by omega), nI_clamp (show b < 2 ^ 31 by omega), T.2 a ha, T.2 b hb, nI_add, nI_clamp (show sm_ex a + sm_ex b < 2 ^ 31 by omega), T.1 _ (show sm_ex a + sm_ex b < 14 by omega), ← e]
    exact ⟨pk_in (sm_ex a + sm_ex b) 14 (by omega), hp⟩
theorem sm_t0 {post : Int32 → Prop} {x y : Int32} (hx : x = 0) (hp : post 0) : wpX_times post (f0, f1, a1, a2, a3, a4, a5, a6, a7, a8, a9, a10) x y := br_t hx hp
theorem sm_tz {post : Int32 → Prop} {x y : Int32} (hy : y = 0) (hp : post 0) : wpX_times post (f0, f1, a1, a2, a3, a4, a5, a6, a7, a8, a9, a10) x y := br_c (fun _ => hp) (fun _ => br_t hy hp)
theorem sm_product {post : Int32 → Prop} {x y : Int32} (a b : Nat) (T : sm_T a3 a4) (ha : a < 8) (hb : b < 8) (hp : post (nI (sm_mul a b))) (hx : x = nI a := by rfl) (hy : y = nI b := by rfl) : wpX_product post (f0, f1, a1, a2, a3, a4, a5, a6, a7, a8, a9, a10) x y := by
  unfold wpX_product
  exact sm_sym a ha (br_f (by decide) (sm_sym b hb (br_f (by decide) (sm_times a b T ha hb hp hx hy)) hy)) hx
theorem sm_v {post : Int32 → Prop} (w : Nat → Nat) (x : Nat) (T : sm_T a3 a4) (hx : x < 8) (hw : ∀ j, j < 7 → w j < 8) (ha : ∀ j, j < 7 → a10 j = nI (w j)) : ∀ i s, i ≤ 7 → s < 8 → post (nI (sm_hor w x i s)) → wX_valueOf_6 post (nI x) f0 f1 a1 a2 a3 a4 a5 a6 a7 a8 a9 a10 (i + 1) (nI s) (nI i + (-1)) := by
  intro i
  induction i with
  | zero => exact fun s _ _ hp => br_t (by decide) hp
  | succ i ih =>
    intro s hi hs hp
    rw [pk_m1]
    refine br_f (nI_pos (by omega)) (sm_times s x T hs hx ⟨pk_in i 7 (by omega), nm_r (e' := nI (sm_mul s x ^^^ w i)) ?_ (nm_e (ih (sm_mul s x ^^^ w i) (by omega) (sm_xlt (sm_mul_lt s hs x hx) (hw i (by omega))) hp))⟩)
    rw [nI_clamp (by omega), ha i (by omega), sm_xor]
theorem sm_v2 {post : Int32 → Prop} (w : Nat → Nat) (x : Nat) (T : sm_T a3 a4) (hx : x < 8) (hw : ∀ j, j < 7 → w j < 8) (ha : ∀ j, j < 7 → a1 j = nI (w j)) : ∀ i s, i ≤ 7 → s < 8 → post (nI (sm_hor w x i s)) → wX_valueOf_2_6 post (nI x) f0 f1 a1 a2 a3 a4 a5 a6 a7 a8 a9 a10 (i + 1) (nI s) (nI i + (-1)) := by
  intro i
  induction i with
  | zero => exact fun s _ _ hp => br_t (by decide) hp
  | succ i ih =>
    intro s hi hs hp
    rw [pk_m1]
    refine br_f (nI_pos (by omega)) (sm_times s x T hs hx ⟨pk_in i 7 (by omega), nm_r (e' := nI (sm_mul s x ^^^ w i)) ?_ (nm_e (ih (sm_mul s x ^^^ w i) (by omega) (sm_xlt (sm_mul_lt s hs x hx) (hw i (by omega))) hp))⟩)
    rw [nI_clamp (by omega), ha i (by omega), sm_xor]
theorem sm_valueOf {post : Int32 → Prop} {y : Int32} (w : Nat → Nat) (x : Nat) (T : sm_T a3 a4) (hx : x < 8) (hw : ∀ j, j < 7 → w j < 8) (ha : ∀ j, j < 7 → a10 j = nI (w j)) (hp : post (nI (sm_hor w x 7 0))) (hy : y = nI x) : wpX_valueOf post (f0, f1, a1, a2, a3, a4, a5, a6, a7, a8, a9, a10) y := by
  subst hy
  have h := sm_v (f0 := f0) (f1 := f1) (a1 := a1) (a2 := a2) (a5 := a5) (a6 := a6) (a7 := a7) (a8 := a8) (a9 := a9) w x T hx hw ha 7 0 (by omega) (by omega) hp
  rw [pk_m1 6] at h
  exact ⟨8, h⟩
theorem sm_valueOf2 {post : Int32 → Prop} {y : Int32} (w : Nat → Nat) (x : Nat) (T : sm_T a3 a4) (hx : x < 8) (hw : ∀ j, j < 7 → w j < 8) (ha : ∀ j, j < 7 → a1 j = nI (w j)) (hp : post (nI (sm_hor w x 7 0))) (hy : y = nI x) : wpX_valueOf_2 post (f0, f1, a1, a2, a3, a4, a5, a6, a7, a8, a9, a10) y := by
  subst hy
  have h := sm_v2 (f0 := f0) (f1 := f1) (a2 := a2) (a5 := a5) (a6 := a6) (a7 := a7) (a8 := a8) (a9 := a9) (a10 := a10) w x T hx hw ha 7 0 (by omega) (by omega) hp
  rw [pk_m1 6] at h
  exact ⟨8, h⟩
theorem sm_value {post : Int32 → Prop} {y : Int32} (w : Nat → Nat) (x : Nat) (T : sm_T a3 a4) (hx : x < 8) (hw : ∀ j, j < 7 → w j < 8) (ha : ∀ j, j < 7 → a1 j = nI (w j)) (hp : post (nI (sm_hor w x 7 0))) (hy : y = nI x := by rfl) : wpX_value post (f0, f1, a1, a2, a3, a4, a5, a6, a7, a8, a9, a10) y := by
  unfold wpX_value
  exact sm_sym x hx (br_f (by decide) (sm_valueOf2 w x T hx hw ha hp hy)) hy
theorem sm_at {post : Int32 → Prop} {y : Int32} (p v : Nat) (hp7 : p < 7) (ha : a1 p = nI v) (hp : post (nI v)) (hy : y = nI p := by rfl) : wpX_at post (f0, f1, a1, a2, a3, a4, a5, a6, a7, a8, a9, a10) y := by
  subst hy
  unfold wpX_at
  refine sm_place p hp7 (br_f (by decide) ⟨pk_in p 7 hp7, ?_⟩)
  rw [nI_clamp (by omega), ha]
  exact hp
/-! division -/
theorem sm_ds {post : St2 → Prop} {n : Nat} (p w : Nat) (r : Nat × Nat × Nat × Nat) (T : sm_T a3 a4) (hp4 : 4 ≤ p) (hp : p < 7) (hw : a1 p = nI w) (hl : w ^^^ r.2.2.2 < 8) (H : wX_divideAway_13 post f0 f1 a1 a2 a3 a4 a5 a6 a7 a8 a9 a10 n (nI (sm_st w r).1) (nI (sm_st w r).2.1) (nI (sm_st w r).2.2.1) (nI (sm_st w r).2.2.2) (nI p + (-1))) : wX_divideAway_13 post f0 f1 a1 a2 a3 a4 a5 a6 a7 a8 a9 a10 (n + 1) (nI r.1) (nI r.2.1) (nI r.2.2.1) (nI r.2.2.2) (nI p) :=
  br_f (nI_nlt (a := p) (b := 4) hp4 (by omega)) ⟨pk_in p 7 hp, nm_r (e' := nI (w ^^^ r.2.2.2)) (by rw [nI_clamp (by omega), hw, sm_xor]) (sm_times (w ^^^ r.2.2.2) 3 T hl (by omega) (nm_r (sm_xor _ _) (nm_r (sm_xor _ _) (sm_times (w ^^^ r.2.2.2) 2 T hl (by omega) (nm_r (sm_xor _ _) (sm_times (w ^^^ r.2.2.2) 3 T hl (by omega) (nm_e H)))))))⟩
theorem sm_div {post : St2 → Prop} (a b c : Nat) (T : sm_T a3 a4) (ha : a < 8) (hb : b < 8) (hc : c < 8) (h4 : a1 4 = nI a) (h5 : a1 5 = nI b) (h6 : a1 6 = nI c) (hp : post (f0, f1, upd (upd (upd (upd a1 0 (nI (sm_r a b c).1)) 1 (nI (sm_r a b c).2.1)) 2 (nI (sm_r a b c).2.2.1)) 3 (nI (sm_r a b c).2.2.2), a2, a3, a4, a5, a6, a7, a8, a9, a10)) : wpX_divideAway post (f0, f1, a1, a2, a3, a4, a5, a6, a7, a8, a9, a10) := by
  have hr := sm_r_lt c hc b hb
  refine ⟨4, sm_ds 6 c (0, 0, 0, 0) T (by omega) (by omega) h6 (sm_xlt hc (show (0 : Nat) < 8 by omega)) ?_⟩
  rw [pk_m1 5]
  refine sm_ds 5 b (sm_st c (0, 0, 0, 0)) T (by omega) (by omega) h5 (sm_xlt hb hr.1) ?_
  rw [pk_m1 4]
  refine sm_ds 4 a (sm_st b (sm_st c (0, 0, 0, 0))) T (by omega) (by omega) h4 (sm_xlt ha hr.2) ?_
  rw [pk_m1 3]
  exact br_t (nI_lt (a := 3) (b := 4) (by omega) (by omega)) (nm_e (nm_e (nm_e (nm_e hp))))
/-! sending -/
def sm_w0 (a b c j : Nat) : Nat := if j = 4 then a else if j = 5 then b else if j = 6 then c else 0
theorem sm_wdu {v : Nat → Int32} (a b c : Nat) (h4 : v 4 = nI a) (h5 : v 5 = nI b) (h6 : v 6 = nI c) : ∀ j, j < 7 → upd (upd (upd (upd v 0 (nI (sm_r a b c).1)) 1 (nI (sm_r a b c).2.1)) 2 (nI (sm_r a b c).2.2.1)) 3 (nI (sm_r a b c).2.2.2) j = nI (sm_wd a b c j) := by
  intro j hj
  match j, hj with
  | 0, _ => rfl
  | 1, _ => rfl
  | 2, _ => rfl
  | 3, _ => rfl
  | 4, _ => exact h4
  | 5, _ => exact h5
  | 6, _ => exact h6
  | n + 7, h => exact absurd h (by omega)
theorem sm_send {post : Int32 → St2 → Prop} (a b c : Nat) (T : sm_T a3 a4) (ha : a < 8) (hb : b < 8) (hc : c < 8) (H : ∀ v m : Nat → Int32, (∀ j, j < 7 → v j = nI (sm_wd a b c j)) → (∀ j, j < 7 → m j = 0) → post 0 (f0, f1, v, m, a3, a4, a5, a6, a7, a8, a9, a10)) : wpX_send post (f0, f1, a1, a2, a3, a4, a5, a6, a7, a8, a9, a10) (nI a) (nI b) (nI c) := by
  unfold wpX_send
  refine sm_sym a ha (br_f (by decide) (sm_sym b hb (br_f (by decide) (sm_sym c hc (br_f (by decide) ?_)))))
  refine pk_loop (fun n i (s : (Nat → Int32) × (Nat → Int32)) => wX_send_26 post (nI a) (nI b) (nI c) f0 f1 n (nI i) s.1 s.2 a3 a4 a5 a6 a7 a8 a9 a10) (fun i s => (∀ j, j < i → s.1 j = nI (sm_w0 a b c j)) ∧ (∀ j, j < i → s.2 j = 0)) 7 0 (a1, a2) (by omega) ⟨lt_0, lt_0⟩ ?_ ?_
  · intro n s h
    refine pk_le 7 7 (fun _ => ?_) (fun z => absurd z (by omega))
    have h4 : s.1 4 = nI a := h.1 4 (by omega)
    have h5 : s.1 5 = nI b := h.1 5 (by omega)
    have h6 : s.1 6 = nI c := h.1 6 (by omega)
    exact sm_div a b c T ha hb hc h4 h5 h6 (H _ _ (sm_wdu a b c h4 h5 h6) h.2)
  · intro n i s hi h hw
    have st : ∀ z0, z0 = nI (sm_w0 a b c i) → wX_send_71 post (wX_send_26 post (nI a) (nI b) (nI c) f0 f1 n) (nI a) (nI b) (nI c) (nI i) z0 (nI i) f0 f1 s.1 s.2 a3 a4 a5 a6 a7 a8 a9 a10 :=
      fun z0 hz => ⟨pk_in i 7 hi, nm_e ⟨pk_in i 7 hi, nm_e (nm_r (nI_1 i) (hw (upd s.1 (nI i).toNatClampNeg z0, upd s.2 (nI i).toNatClampNeg 0) ⟨sm_fill (f := fun j => nI (sm_w0 a b c j)) (nI_clamp (by omega)) h.1 hz, sm_fill (f := fun _ => 0) (nI_clamp (by omega)) h.2 rfl⟩))⟩⟩
    refine pk_le 7 i (fun z => absurd z (by omega)) (fun _ => pk_eq i 4 (fun z => st _ ?_) (fun z4 => pk_eq i 5 (fun z => st _ ?_) (fun z5 => pk_eq i 6 (fun z => st _ ?_) (fun z6 => st _ ?_))))
    · rw [sm_w0, if_pos z]
    · rw [sm_w0, if_neg z4, if_pos z]
    · rw [sm_w0, if_neg z4, if_neg z5, if_pos z]
    · rw [sm_w0, if_neg z4, if_neg z5, if_neg z6]
      rfl
end
end
section
/-! the rule, the numerator: no place is missing and every syndrome is 0 -/
section
variable {f0 f1 : Int32} {a1 a2 a3 a4 a5 a6 a7 a8 a9 a10 : Nat → Int32}
theorem sm_b176 {post : St2 → Prop} {J : Int32 → Int32 → Int32 → (Nat → Int32) → (Nat → Int32) → (Nat → Int32) → (Nat → Int32) → (Nat → Int32) → (Nat → Int32) → (Nat → Int32) → (Nat → Int32) → (Nat → Int32) → (Nat → Int32) → Prop} {x1 x2 : Int32} (H : ∀ c, J (x2 + 1) f0 f1 a1 a2 a3 a4 a5 a6 c a8 a9 a10) : ∃ n, wX_buildRule_176 post J x1 x2 0 f0 f1 n 9 a1 a2 a3 a4 a5 a6 a7 a8 a9 a10 :=
  ⟨10, pk_loopD (fun n i s => wX_buildRule_176 post J x1 x2 0 f0 f1 n (nI i) a1 a2 a3 a4 a5 a6 s a8 a9 a10) (fun i _ => i < 10)
    (fun n s _ => pk_le 0 0 (fun _ => nm_e (br_t rfl (nm_e (H _)))) (fun z => absurd z (by omega)))
    (fun n i s h hw => pk_le (i + 1) 0 (fun z => absurd z (by omega)) (fun _ => ⟨pk_in i 10 (by omega) (nI_pred i), pk_in (i + 1) 10 h, nm_e (nm_r (pk_m1 i) (hw _ (by omega)))⟩)) 9 a7 (by omega)⟩
theorem sm_b137 {post : St2 → Prop} {J : Int32 → Int32 → Int32 → (Nat → Int32) → (Nat → Int32) → (Nat → Int32) → (Nat → Int32) → (Nat → Int32) → (Nat → Int32) → (Nat → Int32) → (Nat → Int32) → (Nat → Int32) → (Nat → Int32) → Prop} {x1 : Int32} {r : Nat} (hr : 1 ≤ r) (hr5 : r < 5) (h5 : ∀ j, 1 ≤ j → j < 5 → a5 j = 0) (H : ∀ c, J (nI r + 1) f0 f1 a1 a2 a3 a4 a5 a6 c a8 a9 a10) : ∃ n, wX_buildRule_137 post J x1 (nI r) f0 f1 a1 a2 a3 a4 a5 a6 a7 a8 a9 a10 n 0 0 :=
  pk_loop (σ := Unit) (fun n i _ => wX_buildRule_137 post J x1 (nI r) f0 f1 a1 a2 a3 a4 a5 a6 a7 a8 a9 a10 n 0 (nI i)) (fun _ _ => True) r 0 () (by omega) trivial
    (fun n _ _ => pk_le r r (fun _ => sm_b176 H) (fun z => absurd z (by omega)))
    (fun n i _ hi _ hw => pk_le r i (fun z => absurd z (by omega)) (fun _ => ⟨pk_in i 10 (by omega), pk_in (r - i) 5 (by omega) (pk_sub (by omega)), sm_tz (by rw [pk_sub (by omega), nI_clamp (by omega)]; exact h5 _ (by omega) (by omega)) (nm_r (e' := 0) (by decide) (nm_r (nI_1 i) (hw () trivial)))⟩))
theorem sm_b127 {post : St2 → Prop} {x1 : Int32} (h5 : ∀ j, 1 ≤ j → j < 5 → a5 j = 0) (H : ∀ c, post (f0, f1, a1, a2, a3, a4, a5, a6, c, a8, a9, a10)) : ∃ n, wX_buildRule_127 post x1 n 1 f0 f1 a1 a2 a3 a4 a5 a6 a7 a8 a9 a10 :=
  pk_loop (fun n i s => wX_buildRule_127 post x1 n (nI i) f0 f1 a1 a2 a3 a4 a5 a6 s a8 a9 a10) (fun i _ => 1 ≤ i) 5 1 a7 (by omega) (by omega)
    (fun n s _ => pk_le 5 5 (fun _ => H s) (fun z => absurd z (by omega)))
    (fun n i s hi h hw => pk_le 5 i (fun z => absurd z (by omega)) (fun _ => sm_b137 h hi h5 (fun c => by
      rw [nI_1]
      exact hw c (by omega))))
theorem sm_b94 {post : St2 → Prop} (H : ∀ c, ∃ n, wX_buildRule_127 post 0 n 1 0 f1 a1 a2 a3 a4 a5 a6 c a8 a9 a10) : ∃ n, wX_buildRule_94 post 0 f0 f1 n 0 a1 a2 a3 a4 a5 a6 a7 a8 a9 a10 :=
  pk_loop (fun n i s => wX_buildRule_94 post 0 f0 f1 n (nI i) a1 a2 a3 a4 a5 a6 s a8 a9 a10) (fun _ _ => True) 10 0 a7 (by omega) trivial
    (fun n s _ => pk_le 10 10 (fun _ => nm_r (e' := 1) (by decide) (H s)) (fun z => absurd z (by omega)))
    (fun n i s hi _ hw => pk_le 10 i (fun z => absurd z (by omega)) (fun _ => ⟨pk_in i 10 hi, pk_in i 10 hi, nm_e (nm_r (nI_1 i) (hw _ trivial))⟩))
theorem sm_b31 {post : St2 → Prop} (h2 : ∀ j, j < 7 → a2 j = 0) (H : ∃ n, wX_buildRule_94 post 0 f0 f1 n 0 a1 a2 a3 a4 a5 a6 a7 a8 a9 a10) : ∃ n, wX_buildRule_31 post 0 f0 f1 n 0 a1 a2 a3 a4 a5 a6 a7 a8 a9 a10 :=
  pk_loop (σ := Unit) (fun n i _ => wX_buildRule_31 post 0 f0 f1 n (nI i) a1 a2 a3 a4 a5 a6 a7 a8 a9 a10) (fun _ _ => True) 7 0 () (by omega) trivial
    (fun n _ _ => pk_le 7 7 (fun _ => H) (fun z => absurd z (by omega)))
    (fun n i _ hi _ hw => pk_le 7 i (fun z => absurd z (by omega)) (fun _ => ⟨1, br_f (by decide) ⟨pk_in i 7 hi, br_t (by rw [nI_clamp (by omega)]; exact h2 i hi) (nm_r (nI_1 i) (hw () trivial))⟩⟩))
/-- the rule that needs no place -/
def sm_one (j : Nat) : Nat := if j = 0 then 1 else 0
theorem sm_rule {post : St2 → Prop} (h2 : ∀ j, j < 7 → a2 j = 0) (h5 : ∀ j, 1 ≤ j → j < 5 → a5 j = 0) (H : ∀ c6 c7 : Nat → Int32, (∀ j, j < 10 → c6 j = nI (sm_one j)) → post (0, f1, a1, a2, a3, a4, a5, c6, c7, a8, a9, a10)) : wpX_buildRule post (f0, f1, a1, a2, a3, a4, a5, a6, a7, a8, a9, a10) 0 :=
  pk_loop (fun n i s => wX_buildRule_2 post 0 f0 f1 n (nI i) a1 a2 a3 a4 a5 s a7 a8 a9 a10) (fun i s => ∀ j, j < i → s j = nI (sm_one j)) 10 0 a6 (by omega) lt_0
    (fun n s h => pk_le 10 10 (fun _ => sm_b31 h2 (sm_b94 (fun c => sm_b127 h5 (fun c' => H s c' h)))) (fun z => absurd z (by omega)))
    (fun n i s hi h hw => pk_le 10 i (fun z => absurd z (by omega)) (fun _ => pk_eq i 0
      (fun z => ⟨pk_in i 10 hi, nm_e (nm_r (nI_1 i) (hw _ (sm_fill (f := fun j => nI (sm_one j)) (nI_clamp (by omega)) h (by rw [z]; rfl))))⟩)
      (fun z => ⟨pk_in i 10 hi, nm_e (nm_r (nI_1 i) (hw _ (sm_fill (f := fun j => nI (sm_one j)) (nI_clamp (by omega)) h (by rw [sm_one, if_neg z]; rfl))))⟩)))
theorem sm_n16 {post : St2 → Prop} {J : Int32 → (Nat → Int32) → (Nat → Int32) → (Nat → Int32) → (Nat → Int32) → (Nat → Int32) → (Nat → Int32) → (Nat → Int32) → (Nat → Int32) → (Nat → Int32) → (Nat → Int32) → Prop} {k : Nat} (hk : k < 4) (h5 : ∀ j, 1 ≤ j → j < 5 → a5 j = 0) (h9 : ∀ j, j < k + 1 → a9 j = 0) (H : ∀ c : Nat → Int32, (∀ j, j < k + 1 → c j = 0) → J (nI k + 1) a1 a2 a3 a4 a5 a6 a7 a8 c a10) : ∃ n, wX_findNumerator_16 post J (nI k) f0 f1 n 0 a1 a2 a3 a4 a5 a6 a7 a8 a9 a10 :=
  pk_loop (fun n i s => wX_findNumerator_16 post J (nI k) f0 f1 n (nI i) a1 a2 a3 a4 a5 a6 a7 a8 s a10) (fun _ s => ∀ j, j < k + 1 → s j = 0) (k + 1) 0 a9 (by omega) h9
    (fun n s h => pk_lt k (k + 1) (fun _ => nm_e (H s h)) (fun z => absurd z (by omega)))
    (fun n i s hi h hw => pk_lt k i (fun z => absurd z (by omega)) (fun z => ⟨pk_in k 4 hk, pk_in i 10 (by omega), pk_in (k - i + 1) 5 (by omega) (by rw [pk_sub z, nI_1]), sm_tz (by rw [pk_sub z, nI_1, nI_clamp (by omega)]; exact h5 _ (by omega) (by omega)) ⟨pk_in k 4 hk, nm_e (nm_r (nI_1 i) (hw _ (by
      rw [nI_clamp (by omega), h k (by omega)]
      exact sm_fill (f := fun _ => 0) rfl (fun j hj => h j (by omega)) (by decide))))⟩⟩))
theorem sm_num {post : St2 → Prop} (h5 : ∀ j, 1 ≤ j → j < 5 → a5 j = 0) (H : ∀ c : Nat → Int32, (∀ j, j < 4 → c j = 0) → post (f0, f1, a1, a2, a3, a4, a5, a6, a7, a8, c, a10)) : wpX_findNumerator post (f0, f1, a1, a2, a3, a4, a5, a6, a7, a8, a9, a10) :=
  pk_loop (fun n i s => wX_findNumerator_2 post f0 f1 n (nI i) a1 a2 a3 a4 a5 a6 a7 a8 s a10) (fun i s => ∀ j, j < i → s j = 0) 4 0 a9 (by omega) lt_0
    (fun n s h => pk_le 4 4 (fun _ => H s h) (fun z => absurd z (by omega)))
    (fun n i s hi h hw => pk_le 4 i (fun z => absurd z (by omega)) (fun _ => ⟨pk_in i 4 hi, nm_e (sm_n16 hi h5 (sm_fill (f := fun _ => 0) (nI_clamp (by omega)) h rfl) (fun c hc => by
      rw [nI_1]
      exact hw c hc))⟩))
end
end
section
/-! correcting, judging, fitting -/
section
variable {f0 f1 : Int32} {a1 a2 a3 a4 a5 a6 a7 a8 a9 a10 : Nat → Int32}
theorem sm_c94 {post : St2 → Prop} {J : Int32 → Int32 → Int32 → Int32 → Int32 → Prop} {x1 x3 x4 : Int32} {x q i : Nat} (T : sm_T a3 a4) (hx : x < 8) (hq : q < 8) (H : J x3 x4 0 (nI (sm_mul x q)) (nI (i + 1))) : wX_correct_94 post J x1 (nI q) x3 x4 (nI x) (nI i) 0 0 f0 f1 a1 a2 a3 a4 a5 a6 a7 a8 a9 a10 :=
  nm_r (e' := 0) (by decide) (sm_times x q T hx hq (nm_r (nI_1 i) H))
theorem sm_c66 {post : St2 → Prop} {J : Int32 → Int32 → Int32 → Int32 → Int32 → Prop} {x1 x3 : Int32} {x q i : Nat} (T : sm_T a3 a4) (hx : x < 8) (hq : q < 8) (hi : i < 8) (h9 : ∀ j, j < 4 → a9 j = 0) (H : J x3 0 0 (nI (sm_mul x q)) (nI (i + 1))) : wX_correct_66 post J x1 (nI q) x3 0 (nI x) (nI i) 0 0 f0 f1 a1 a2 a3 a4 a5 a6 a7 a8 a9 a10 :=
  nm_r (e' := 0) (by decide) (pk_le 4 i (fun _ => sm_c94 T hx hq H) (fun z => ⟨pk_in i 4 z, sm_t0 (by rw [nI_clamp (by omega)]; exact h9 i z) (sm_c94 T hx hq H)⟩))
theorem sm_c24 {post : St2 → Prop} {x1 : Int32} {q : Nat} (T : sm_T a3 a4) (hq : q < 8) (h6 : ∀ j, j < 10 → a6 j = nI (sm_one j)) (h9 : ∀ j, j < 4 → a9 j = 0) (H : post (f0, f1, a1, a2, a3, a4, a5, a6, a7, a8, a9, a10)) : ∃ n, wX_correct_24 post x1 (nI q) f0 f1 a1 a2 a3 a4 a5 a6 a7 a8 a9 a10 n 0 0 0 1 0 := by
  refine pk_loop (fun n i (x : Nat) => wX_correct_24 post x1 (nI q) f0 f1 a1 a2 a3 a4 a5 a6 a7 a8 a9 a10 n (nI (min i 1)) 0 0 (nI x) (nI i)) (fun i x => x < 8 ∧ (i = 0 → x = 1)) 8 0 1 (by omega) ⟨by omega, fun _ => rfl⟩ ?_ ?_
  · exact fun n x _ => pk_le 8 8 (fun _ => br_f (by decide) H) (fun z => absurd z (by omega))
  · intro n i x hi h hw
    have hx := h.1
    have t : wX_correct_24 post x1 (nI q) f0 f1 a1 a2 a3 a4 a5 a6 a7 a8 a9 a10 n (nI 1) 0 0 (nI (sm_mul x q)) (nI (i + 1)) := by
      have t : wX_correct_24 post x1 (nI q) f0 f1 a1 a2 a3 a4 a5 a6 a7 a8 a9 a10 n (nI (min (i + 1) 1)) 0 0 (nI (sm_mul x q)) (nI (i + 1)) := hw (sm_mul x q) ⟨sm_mul_lt x hx q hq, fun z => absurd z (by omega)⟩
      rw [show min (i + 1) 1 = 1 by omega] at t
      exact t
    have e : sm_mul (sm_one i) x = sm_one i := by
      by_cases z : i = 0
      · rw [z, h.2 z]; rfl
      · rw [sm_one, if_neg z]; rfl
    have o : sm_one i < 8 := by
      rw [sm_one]; split <;> omega
    refine pk_le 8 i (fun z => absurd z (by omega)) (fun _ => ⟨pk_in i 10 (by omega), sm_times (sm_one i) x T o hx ?_ (by rw [nI_clamp (by omega)]; exact h6 i (by omega))⟩)
    rw [e]
    refine nm_r (e' := nI 1) ?_ (br_c (fun _ => sm_c66 T hx hq hi h9 t) (fun g => ?_))
    · by_cases z : i = 0
      · rw [z]; decide
      · rw [sm_one, if_neg z, show min i 1 = 1 by omega]; decide
    · have z : i ≠ 0 := fun z => g (by rw [z]; decide)
      rw [sm_one, if_neg z]
      exact sm_c66 T hx hq hi h9 t
theorem sm_cor {post : St2 → Prop} {p : Nat} (hp : p < 7) (T : sm_T a3 a4) (h6 : ∀ j, j < 10 → a6 j = nI (sm_one j)) (h9 : ∀ j, j < 4 → a9 j = 0) (H : post (f0, f1, a1, a2, a3, a4, a5, a6, a7, a8, a9, a10)) : wpX_correct post (f0, f1, a1, a2, a3, a4, a5, a6, a7, a8, a9, a10) (nI p) := by
  have e : (7 : Int32) - nI p = nI (7 - p) := pk_sub (a := 7) (b := p) (by omega)
  refine ⟨pk_in (7 - p) 14 (by omega) e, nm_r (e' := nI (sm_pw (7 - p))) ?_ (sm_c24 T (sm_pw_lt _ (by omega)) h6 h9 H)⟩
  rw [e, nI_clamp (by omega)]
  exact T.1 _ (by omega)
theorem sm_r59 {post : Int32 → St2 → Prop} (w : Nat → Nat) (T : sm_T a3 a4) (hw : ∀ j, j < 7 → w j < 8) (h0 : ∀ j, j < 5 → 1 ≤ j → sm_hor w (sm_pw j) 7 0 = 0) (ha : ∀ j, j < 7 → a10 j = nI (w j)) (H : post 1 (f0, 0, a1, a2, a3, a4, a5, a6, a7, a8, a9, a10)) : ∃ n, wX_isRight_59 post 0 f0 0 a1 a2 a3 a4 a5 a6 a7 a8 a9 a10 n 1 :=
  pk_loop (σ := Unit) (fun n i _ => wX_isRight_59 post 0 f0 0 a1 a2 a3 a4 a5 a6 a7 a8 a9 a10 n (nI i)) (fun i _ => 1 ≤ i) 5 1 () (by omega) (by omega)
    (fun n _ _ => pk_le 5 5 (fun _ => br_f (by decide) H) (fun z => absurd z (by omega)))
    (fun n i _ hi h hk => pk_le 5 i (fun z => absurd z (by omega)) (fun _ => ⟨pk_in i 14 (by omega), sm_valueOf w (sm_pw i) T (sm_pw_lt i (by omega)) hw ha (br_t (by rw [h0 i hi h]; rfl) (nm_r (nI_1 i) (hk () (by omega)))) (by rw [nI_clamp (by omega)]; exact T.1 i (by omega))⟩))
theorem sm_right {post : Int32 → St2 → Prop} (w : Nat → Nat) (T : sm_T a3 a4) (hw : ∀ j, j < 7 → w j < 8) (h0 : ∀ j, j < 5 → 1 ≤ j → sm_hor w (sm_pw j) 7 0 = 0) (h1 : ∀ j, j < 7 → a1 j = nI (w j)) (h2 : ∀ j, j < 7 → a2 j = 0) (ha : ∀ j, j < 7 → a10 j = nI (w j)) (H : post 1 (f0, 0, a1, a2, a3, a4, a5, a6, a7, a8, a9, a10)) : wpX_isRight post (f0, f1, a1, a2, a3, a4, a5, a6, a7, a8, a9, a10) 0 :=
  pk_loop (σ := Unit) (fun n i _ => wX_isRight_7 post 0 f0 a1 a2 a3 a4 a5 a6 a7 a8 a9 a10 n (nI i) 0) (fun _ _ => True) 7 0 () (by omega) trivial
    (fun n _ _ => pk_le 7 7 (fun _ => sm_r59 w T hw h0 ha H) (fun z => absurd z (by omega)))
    (fun n i _ hi _ hk => pk_le 7 i (fun z => absurd z (by omega)) (fun _ => ⟨pk_in i 7 hi, br_t (by rw [nI_clamp (by omega)]; exact h2 i hi) ⟨pk_in i 7 hi, pk_in i 7 hi, br_t (by rw [nI_clamp (by omega), ha i hi, h1 i hi]) (nm_r (e' := 0) (by decide) (nm_r (nI_1 i) (hk () trivial)))⟩⟩))
theorem sm_w96 {post : Int32 → St2 → Prop} (w : Nat → Nat) (T : sm_T a3 a4) (hw : ∀ j, j < 7 → w j < 8) (h0 : ∀ j, j < 5 → 1 ≤ j → sm_hor w (sm_pw j) 7 0 = 0) (h1 : ∀ j, j < 7 → a1 j = nI (w j)) (h2 : ∀ j, j < 7 → a2 j = 0) (ha : ∀ j, j < 7 → a10 j = nI (w j)) (h6 : ∀ j, j < 10 → a6 j = nI (sm_one j)) (h9 : ∀ j, j < 4 → a9 j = 0) (H : post 1 (f0, 0, a1, a2, a3, a4, a5, a6, a7, a8, a9, a10)) : ∃ n, wX_findWhole_96 post 0 n 0 f0 f1 a1 a2 a3 a4 a5 a6 a7 a8 a9 a10 :=
  pk_loop (σ := Unit) (fun n i _ => wX_findWhole_96 post 0 n (nI i) f0 f1 a1 a2 a3 a4 a5 a6 a7 a8 a9 a10) (fun _ _ => True) 7 0 () (by omega) trivial
    (fun n _ _ => pk_le 7 7 (fun _ => sm_right w T hw h0 h1 h2 ha ⟨rfl, H⟩) (fun z => absurd z (by omega)))
    (fun n i _ hi _ hk => pk_le 7 i (fun z => absurd z (by omega)) (fun _ => sm_cor hi T h6 h9 (nm_r (nI_1 i) (hk () trivial))))
theorem sm_w54 {post : Int32 → St2 → Prop} (w : Nat → Nat) (T : sm_T a3 a4) (hw : ∀ j, j < 7 → w j < 8) (h0 : ∀ j, j < 5 → 1 ≤ j → sm_hor w (sm_pw j) 7 0 = 0) (h1 : ∀ j, j < 7 → a1 j = nI (w j)) (h2 : ∀ j, j < 7 → a2 j = 0) (ha : ∀ j, j < 7 → a10 j = nI (w j)) (H : ∀ c5 c6 c7 c9 : Nat → Int32, post 1 (0, 0, a1, a2, a3, a4, c5, c6, c7, a8, c9, a10)) : ∃ n, wX_findWhole_54 post 0 f0 f1 n 1 a1 a2 a3 a4 a5 a6 a7 a8 a9 a10 :=
  pk_loop (fun n i s => wX_findWhole_54 post 0 f0 f1 n (nI i) a1 a2 a3 a4 s a6 a7 a8 a9 a10) (fun i s => 1 ≤ i ∧ ∀ j, 1 ≤ j → j < i → s j = 0) 5 1 a5 (by omega) ⟨by omega, fun j h h' => absurd h (by omega)⟩
    (fun n s h => pk_le 5 5 (fun _ => sm_rule h2 h.2 (fun c6 c7 h6 => sm_num h.2 (fun c9 h9 => sm_w96 w T hw h0 h1 h2 ha h6 h9 (H s c6 c7 c9)))) (fun z => absurd z (by omega)))
    (fun n i s hi h hk => pk_le 5 i (fun z => absurd z (by omega)) (fun _ => ⟨pk_in i 14 (by omega), sm_valueOf2 w (sm_pw i) T (sm_pw_lt i (by omega)) hw h1 ⟨pk_in i 5 hi, nm_e (nm_r (nI_1 i) (hk _ ⟨by omega, by
      intro j j1 j2
      rw [nI_clamp (by omega), h0 i hi h.1]
      by_cases e : j = i
      · rw [e, pk_us]; rfl
      · rw [pk_un e]; exact h.2 j j1 (by omega)⟩))⟩ (by rw [nI_clamp (by omega)]; exact T.1 i (by omega))⟩))
theorem sm_fits {post : Int32 → St2 → Prop} (w : Nat → Nat) (T : sm_T a3 a4) (hw : ∀ j, j < 7 → w j < 8) (h0 : ∀ j, j < 5 → 1 ≤ j → sm_hor w (sm_pw j) 7 0 = 0) (h1 : ∀ j, j < 7 → a1 j = nI (w j)) (h2 : ∀ j, j < 7 → a2 j = 0) (H : ∀ c5 c6 c7 c9 c10 : Nat → Int32, post 1 (0, 0, a1, a2, a3, a4, c5, c6, c7, a8, c9, c10)) : wpX_fits post (f0, f1, a1, a2, a3, a4, a5, a6, a7, a8, a9, a10) := by
  unfold wpX_fits wpX_findWhole
  exact pk_loop (fun n i s => wX_findWhole_4 _ f0 f1 n 0 (nI i) a1 a2 a3 a4 a5 a6 a7 a8 a9 s) (fun i s => ∀ j, j < i → s j = a1 j) 7 0 a10 (by omega) lt_0
    (fun n s h => pk_le 7 7 (fun _ => br_t (by decide) (sm_w54 w T hw h0 h1 h2 (fun j hj => by rw [h j hj]; exact h1 j hj) (fun c5 c6 c7 c9 => br_f (by decide) (H c5 c6 c7 c9 s)))) (fun z => absurd z (by omega)))
    (fun n i s hi h hk => pk_le 7 i (fun z => absurd z (by omega)) (fun _ => ⟨pk_in i 7 hi, pk_in i 7 hi, nm_e ⟨pk_in i 7 hi, br_t (by rw [nI_clamp (by omega)]; exact h2 i hi) (nm_r (e' := 0) (by decide) (nm_r (nI_1 i) (hk _ (sm_fill (nI_clamp (by omega)) h (by rw [nI_clamp (by omega)])))))⟩⟩))
end
end
section
/-! the maker and the law -/
theorem sm_init {post : St2 → Prop} {mc ms : Nat} (hc : 10 ≤ mc) (hs : 82 ≤ ms) (H : ∀ b3 b4 : Nat → Int32, sm_T b3 b4 → post (0, 0, (fun _ => 0), (fun _ => 0), b3, b4, (fun _ => 0), (fun _ => 0), (fun _ => 0), (fun _ => 0), (fun _ => 0), (fun _ => 0))) : wpX_init post mc ms (0, 0) := by
  refine ⟨by omega, by omega, by omega, by omega, by omega, by omega, by omega, by omega, by omega, by omega, by omega, by omega, by omega, by omega, by omega, by omega, by omega, by omega, by omega, by omega, ?_⟩
  refine pk_loop (σ := Unit) (fun n i _ => wX_init_86 post mc ms 10 82 0 0 n (nI (sm_pw i)) (nI i) (fun _ => 0) (fun _ => 0) (sm_A i) (sm_B i) (fun _ => 0) (fun _ => 0) (fun _ => 0) (fun _ => 0) (fun _ => 0) (fun _ => 0)) (fun _ _ => True) 14 0 () (by omega) trivial ?_ ?_
  · exact fun n _ _ => pk_le 14 14 (fun _ => H _ _ sm_tab) (fun z => absurd z (by omega))
  · intro n i _ hi _ hk
    have hp := sm_pw_lt i (by omega)
    have nx := sm_next i hi
    have st : ∀ B, B = sm_B (i + 1) → wX_init_112 post mc ms (wX_init_86 post mc ms 10 82 0 0 n) (nI (sm_pw i)) (nI i) 10 82 0 0 (fun _ => 0) (fun _ => 0) (sm_A (i + 1)) B (fun _ => 0) (fun _ => 0) (fun _ => 0) (fun _ => 0) (fun _ => 0) (fun _ => 0) := by
      intro B hB
      rw [hB]
      exact br_c (fun g => nm_r (nx.1 g) (nm_r (nI_1 i) (hk () trivial))) (fun g => nm_r (nx.2 g) (nm_r (nI_1 i) (hk () trivial)))
    refine pk_le 14 i (fun z => absurd z (by omega)) (fun _ => ⟨pk_in i 14 hi, nm_r (e' := sm_A (i + 1)) (by rw [nI_clamp (by omega)]; rfl) (pk_le 7 i (fun z => st _ ?_) (fun z => ⟨pk_in (sm_pw i) 8 hp, nm_r (e' := sm_B (i + 1)) ?_ (st _ rfl)⟩))⟩)
    · show _ = if i < 7 then _ else _
      rw [if_neg (by omega)]
    · show _ = if i < 7 then _ else _
      rw [if_pos z, nI_clamp (by omega)]
section
variable {f0 f1 : Int32} {a1 a2 a3 a4 a5 a6 a7 a8 a9 a10 : Nat → Int32}
theorem sm_237 {mc ms kc ks : Nat} {x3 z0 : Int32} (h : z0 = if x3 < 0 then 1 else if x3 ≤ 7 then 0 else 1) : wL_lawOf_237 (fun r _ => r = 1) mc ms x3 z0 kc ks := by
  refine br_c (fun g => ?_) (fun g => br_c (fun g' => ?_) (fun g' => ?_))
  · rw [if_pos g] at h
    exact br_t h rfl
  · rw [if_neg g, if_pos g'] at h
    exact br_t h rfl
  · rw [if_neg g, if_neg g'] at h
    exact br_t h rfl
theorem sm_m1 : ∀ v, v < 8 → ¬ nI v = -1 := by decide +kernel
theorem sm_last {mc ms kc ks : Nat} {x3 : Int32} (w : Nat → Nat) (T : sm_T a3 a4) (hw : ∀ j, j < 7 → w j < 8) (h1 : ∀ j, j < 7 → a1 j = nI (w j)) : wpX_value (fun r => ((r = (-1) → (wL_lawOf_237 (fun r _ => r = 1) mc ms x3 1 kc ks)) ∧ (¬ r = (-1) → (wL_lawOf_237 (fun r _ => r = 1) mc ms x3 0 kc ks)))) (f0, f1, a1, a2, a3, a4, a5, a6, a7, a8, a9, a10) x3 := by
  by_cases g : x3 < 0
  · unfold wpX_value
    exact br_t g (br_t rfl (br_t rfl (sm_237 (by rw [if_pos g]))))
  · by_cases g' : x3 ≤ 7
    · obtain ⟨j, hj, e⟩ := nI_of2 (M := 7) (n := 7) (by decide) g g'
      refine sm_value w j T (by omega) hw h1 (br_f (sm_m1 _ (sm_hor_lt hw (by omega) 7 0 (by omega) (by omega))) (sm_237 (by rw [if_neg g, if_pos g']))) e
    · have g2 : 7 < x3 := Int32.not_le.mp g'
      unfold wpX_value
      exact br_f g (br_t g2 (br_t rfl (br_t rfl (sm_237 (by rw [if_neg g, if_neg g'])))))
theorem sm_99 {mc ms kc ks : Nat} {x3 z0 z1 : Int32} (a b c : Nat) (T : sm_T a3 a4) (ha : a < 8) (hb : b < 8) (hc : c < 8) (hz : z1 ^^^ z0 = nI (sm_mul a b)) : wL_lawOf_99 (fun r _ => r = 1) mc ms x3 (nI a) (nI b) (nI c) (nI (sm_mul a 2)) (nI (sm_mul 4 a)) z0 z1 kc ks f0 f1 a1 a2 a3 a4 a5 a6 a7 a8 a9 a10 := by
  have hw := sm_wd_lt a ha b hb c hc
  have h0 := sm_code a ha b hb c hc
  refine nm_r hz (sm_product a 2 T ha (by omega) (br_t rfl (sm_product 4 a T (by omega) ha (br_t rfl (sm_product a b T ha hb (br_t rfl (sm_send a b c T ha hb hc ?_)))))))
  intro v m h1 h2
  refine br_t rfl (sm_at 4 a (by omega) (h1 4 (by omega)) (br_t rfl (sm_at 5 b (by omega) (h1 5 (by omega)) (br_t rfl (sm_at 6 c (by omega) (h1 6 (by omega)) (br_t rfl (sm_fits (sm_wd a b c) T hw h0 h1 h2 ?_)))))))
  intro c5 c6 c7 c9 c10
  exact br_t rfl (sm_value (sm_wd a b c) 2 T (by omega) hw h1 (br_t (by rw [show sm_hor (sm_wd a b c) 2 7 0 = 0 from h0 1 (by omega) (by omega)]; rfl) (sm_value (sm_wd a b c) 6 T (by omega) hw h1 (br_t (by rw [show sm_hor (sm_wd a b c) 6 7 0 = 0 from h0 4 (by omega) (by omega)]; rfl) (sm_last (sm_wd a b c) T hw h1)))))
theorem sm_85 {mc ms kc ks : Nat} {x3 z0 z1 : Int32} (a b c : Nat) (T : sm_T a3 a4) (ha : a < 8) (hb : b < 8) (hc : c < 8) (hz1 : z1 = if nI b &&& 1 = 0 then 0 else nI a) (hz0 : z0 = if nI b &&& 2 = 0 then 0 else nI (sm_mul a 2)) : wL_lawOf_85 (fun r _ => r = 1) mc ms x3 (nI a) (nI b) (nI c) (nI (sm_mul a 2)) (nI (sm_mul 4 a)) z0 z1 kc ks f0 f1 a1 a2 a3 a4 a5 a6 a7 a8 a9 a10 := by
  have d := sm_due a ha b hb
  rw [← hz1, ← hz0] at d
  refine br_c (fun g => sm_99 a b c T ha hb hc ?_) (fun g => sm_99 a b c T ha hb hc ?_)
  · rw [if_pos g] at d
    exact d
  · rw [if_neg g] at d
    exact d
theorem sm_72 {mc ms kc ks : Nat} {x3 z0 : Int32} (a b c : Nat) (T : sm_T a3 a4) (ha : a < 8) (hb : b < 8) (hc : c < 8) (hz : z0 = if nI b &&& 1 = 0 then 0 else nI a) : wL_lawOf_72 (fun r _ => r = 1) mc ms x3 (nI a) (nI b) (nI c) (nI (sm_mul a 2)) (nI (sm_mul 4 a)) z0 kc ks f0 f1 a1 a2 a3 a4 a5 a6 a7 a8 a9 a10 :=
  br_c (fun g => sm_85 a b c T ha hb hc hz (by rw [if_pos g])) (fun g => sm_85 a b c T ha hb hc hz (by rw [if_neg g]))
end
theorem sm_lawOf (p0 p1 p2 p3 : Int32) : wpL_lawOf (fun r _ => r = 1) 68 1088 () p0 p1 p2 p3 := by
  obtain ⟨a, ha, ea⟩ := pk_andE p0 (m := 7) 3 (by decide)
  obtain ⟨b, hb, eb⟩ := pk_andE p1 (m := 7) 3 (by decide)
  obtain ⟨c, hc, ec⟩ := pk_andE p2 (m := 7) 3 (by decide)
  refine ⟨by omega, by omega, 67, 1000, by omega, by omega, sm_init (by omega) (by omega) (fun b3 b4 T => ?_)⟩
  refine nm_r ea (nm_r eb (nm_r ec (nm_r (sm_up a ha) (nm_r (sm_two a ha) (br_c (fun g => ?_) (fun g => ?_))))))
  · exact sm_72 a b c T ha hb hc (by rw [if_pos g])
  · exact sm_72 a b c T ha hb hc (by rw [if_neg g])
theorem sm_cell {post : Int32 → Prop} {L : Nat} {xs : Nat → Int32} {y : Int32} (hL : L ≤ 4) (p : Nat) (hp : p < 4) (h : ∀ x, post x) (hy : y = nI p := by rfl) : wpL_cellAt post L xs () y :=
  pk_le L p (fun _ => h 0) (fun z => ⟨pk_in p L z hy, h _⟩) rfl hy
end
section
theorem i_vc (xs : Nat → Int32) (L : Nat) (hL : L ≤ 4) : wpL_law (fun r => r = 1) L xs :=
  sm_cell hL 0 (by omega) (fun r1 => sm_cell hL 1 (by omega) (fun r2 => sm_cell hL 2 (by omega) (fun r3 => sm_cell hL 3 (by omega) (fun r4 => ⟨68, 1088, by omega, by omega, sm_lawOf r1 r2 r3 r4⟩))))
end
