section
/-- the member that holds block b -/
def ra_mem (b : Nat) : Nat := if b % 2 < b / 2 % 3 then b % 2 else b % 2 + 1
/-- what member m holds in row r, if the blocks are V -/
def ra_E (V : Nat → Int32) (r m : Nat) : Int32 := if m = r % 3 then V (2 * r) ^^^ V (2 * r + 1) else if m < r % 3 then V (2 * r + m) else V (2 * r + m - 1)
/-- the disks a hold the blocks V, but for member g (3: no member is failed) -/
def ra_K (g : Nat) (V a : Nat → Int32) : Prop := ∀ r m, r < 12 → m < 3 → m ≠ g → a (m * 16 + r) = ra_E V r m
/-- the field failedMember says g -/
def ra_F (fm : Int32) (g : Nat) : Prop := ∀ m, m < 3 → (nI m = fm ↔ m = g)
/-- V with i blocks of x from b on -/
def ra_V (V : Nat → Int32) (b i : Nat) (x : Int32) : Nat → Int32 := fun j => if b ≤ j ∧ j < b + i then x else V j
/-- the sum of the first n blocks -/
def ra_sum (V : Nat → Int32) : Nat → Int32
  | 0 => 0
  | n + 1 => ra_sum V n + V n
/-- the exclusive or of row r over the first i members but q -/
def ra_ox (a : Nat → Int32) (r : Nat) (q : Int32) : Nat → Int32
  | 0 => 0
  | i + 1 => if nI i = q then ra_ox a r q i else ra_ox a r q i ^^^ a (i * 16 + r)
theorem ra_mem3 (b : Nat) : ra_mem b < 3 := by
  unfold ra_mem
  split <;> omega
theorem ra_memp (b : Nat) : ra_mem b ≠ b / 2 % 3 := by
  unfold ra_mem
  split <;> omega
theorem ra_Em (V : Nat → Int32) (b : Nat) : ra_E V (b / 2) (ra_mem b) = V b := by
  unfold ra_E
  rw [if_neg (ra_memp b)]
  unfold ra_mem
  by_cases h : b % 2 < b / 2 % 3
  · rw [if_pos h, if_pos h]
    exact congrArg V (by omega)
  · rw [if_neg h, if_neg (by omega)]
    exact congrArg V (by omega)
theorem ra_xc (x y : Int32) : x ^^^ y = y ^^^ x := Int32.xor_comm x y
theorem ra_xa (x y z : Int32) : x ^^^ y ^^^ z = x ^^^ (y ^^^ z) := Int32.xor_assoc x y z
theorem ra_x0 (x : Int32) : 0 ^^^ x = x := Int32.zero_xor
theorem ra_xs (x : Int32) : x ^^^ x = 0 := Int32.xor_self
theorem ra_xk (x y : Int32) : x ^^^ (x ^^^ y) = y := by rw [← ra_xa, ra_xs, ra_x0]
theorem ra_xk' (x y : Int32) : x ^^^ (y ^^^ x) = y := by rw [ra_xc y x, ra_xk]
/-- the row's exclusive or is 0 -/
theorem ra_Ex (V : Nat → Int32) (r : Nat) : ra_E V r 0 ^^^ ra_E V r 1 ^^^ ra_E V r 2 = 0 := by
  have h : r % 3 = 0 ∨ r % 3 = 1 ∨ r % 3 = 2 := by omega
  rcases h with h | h | h
  · have e0 : ra_E V r 0 = V (2 * r) ^^^ V (2 * r + 1) := by unfold ra_E; rw [if_pos (by omega)]
    have e1 : ra_E V r 1 = V (2 * r) := by unfold ra_E; rw [if_neg (by omega), if_neg (by omega)]; exact congrArg V (by omega)
    have e2 : ra_E V r 2 = V (2 * r + 1) := by unfold ra_E; rw [if_neg (by omega), if_neg (by omega)]; exact congrArg V (by omega)
    rw [e0, e1, e2, ra_xa, ra_xs]
  · have e0 : ra_E V r 0 = V (2 * r) := by unfold ra_E; rw [if_neg (by omega), if_pos (by omega)]; exact congrArg V (by omega)
    have e1 : ra_E V r 1 = V (2 * r) ^^^ V (2 * r + 1) := by unfold ra_E; rw [if_pos (by omega)]
    have e2 : ra_E V r 2 = V (2 * r + 1) := by unfold ra_E; rw [if_neg (by omega), if_neg (by omega)]; exact congrArg V (by omega)
    rw [e0, e1, e2, ra_xk, ra_xs]
  · have e0 : ra_E V r 0 = V (2 * r) := by unfold ra_E; rw [if_neg (by omega), if_pos (by omega)]; exact congrArg V (by omega)
    have e1 : ra_E V r 1 = V (2 * r + 1) := by unfold ra_E; rw [if_neg (by omega), if_pos (by omega)]
    have e2 : ra_E V r 2 = V (2 * r) ^^^ V (2 * r + 1) := by unfold ra_E; rw [if_pos (by omega)]
    rw [e0, e1, e2, ra_xs]
/-- an equation of three that cancels, solved for each -/
theorem ra_s3 {x y z : Int32} (h : x ^^^ y ^^^ z = 0) : x ^^^ y = z := by
  have e : (x ^^^ y) ^^^ ((x ^^^ y) ^^^ z) = (x ^^^ y) ^^^ 0 := by rw [h]
  rw [ra_xk, ra_xc _ 0, ra_x0] at e
  exact e.symm
theorem ra_s1 {x y z : Int32} (h : x ^^^ y ^^^ z = 0) : y ^^^ z = x := by
  rw [← ra_s3 h, ra_xk']
theorem ra_s2 {x y z : Int32} (h : x ^^^ y ^^^ z = 0) : x ^^^ z = y := by
  rw [← ra_s3 h, ra_xk]
/-- scrub's row -/
theorem ra_scr {V a : Nat → Int32} {r : Nat} (h : ra_K 3 V a) (hr : r < 12) : ra_ox a r (-1) 3 = 0 := by
  have h0 := h r 0 hr (by omega) (by omega)
  have h1 := h r 1 hr (by omega) (by omega)
  have h2 := h r 2 hr (by omega) (by omega)
  have e : ra_ox a r (-1) 3 = 0 ^^^ a (0 * 16 + r) ^^^ a (1 * 16 + r) ^^^ a (2 * 16 + r) := by
    unfold ra_ox ra_ox ra_ox ra_ox
    rw [if_neg (by decide), if_neg (by decide), if_neg (by decide)]
  rw [e, h0, h1, h2, ra_x0, ra_Ex]
/-- a failed member's row -/
theorem ra_oth {V a : Nat → Int32} {r g : Nat} (h : ra_K g V a) (hr : r < 12) (hg : g < 3) : ra_ox a r (nI g) 3 = ra_E V r g := by
  have X := ra_Ex V r
  have c : g = 0 ∨ g = 1 ∨ g = 2 := by omega
  rcases c with c | c | c
  · subst c
    have h1 := h r 1 hr (by omega) (by omega)
    have h2 := h r 2 hr (by omega) (by omega)
    have e : ra_ox a r (nI 0) 3 = 0 ^^^ a (1 * 16 + r) ^^^ a (2 * 16 + r) := by
      unfold ra_ox ra_ox ra_ox ra_ox
      rw [if_neg (by decide), if_neg (by decide), if_pos rfl]
    rw [e, h1, h2, ra_x0]
    exact ra_s1 X
  · subst c
    have h0 := h r 0 hr (by omega) (by omega)
    have h2 := h r 2 hr (by omega) (by omega)
    have e : ra_ox a r (nI 1) 3 = 0 ^^^ a (0 * 16 + r) ^^^ a (2 * 16 + r) := by
      unfold ra_ox ra_ox ra_ox ra_ox
      rw [if_neg (by decide), if_pos rfl, if_neg (by decide)]
    rw [e, h0, h2, ra_x0]
    exact ra_s2 X
  · subst c
    have h0 := h r 0 hr (by omega) (by omega)
    have h1 := h r 1 hr (by omega) (by omega)
    have e : ra_ox a r (nI 2) 3 = 0 ^^^ a (0 * 16 + r) ^^^ a (1 * 16 + r) := by
      unfold ra_ox ra_ox ra_ox ra_ox
      rw [if_pos rfl, if_neg (by decide), if_neg (by decide)]
    rw [e, h0, h1, ra_x0]
    exact ra_s3 X
/-- a block is written: its own place -/
theorem ra_Eu (V : Nat → Int32) (b : Nat) (x : Int32) : ra_E (upd V b x) (b / 2) (ra_mem b) = x := by
  rw [ra_Em, pk_us]
/-- its parity -/
theorem ra_Ep (V : Nat → Int32) (b : Nat) (x : Int32) : ra_E (upd V b x) (b / 2) (b / 2 % 3) = ra_E V (b / 2) (b / 2 % 3) ^^^ V b ^^^ x := by
  unfold ra_E
  rw [if_pos rfl, if_pos rfl]
  have c : b = 2 * (b / 2) ∨ b = 2 * (b / 2) + 1 := by omega
  rcases c with c | c
  · have e1 : upd V b x (2 * (b / 2)) = x := by rw [← c, pk_us]
    have e2 : upd V b x (2 * (b / 2) + 1) = V (2 * (b / 2) + 1) := pk_un (by omega)
    rw [e1, e2, ← c, ra_xc (V b) (V (b + 1)), ra_xa (V (b + 1)), ra_xs, ra_xc _ 0, ra_x0, ra_xc]
  · have e1 : upd V b x (2 * (b / 2)) = V (2 * (b / 2)) := pk_un (by omega)
    have e2 : upd V b x (2 * (b / 2) + 1) = x := by rw [← c, pk_us]
    rw [e1, e2, ← c, ra_xa (V (2 * (b / 2))) (V b), ra_xs, ra_xc _ 0, ra_x0]
/-- all else -/
theorem ra_En (V : Nat → Int32) (b : Nat) (x : Int32) {r m : Nat} (hm : m < 3) (h1 : ¬ (r = b / 2 ∧ m = ra_mem b)) (h2 : ¬ (r = b / 2 ∧ m = r % 3)) : ra_E (upd V b x) r m = ra_E V r m := by
  unfold ra_E
  unfold ra_mem at h1
  by_cases c : m = r % 3
  · rw [if_pos c, if_pos c, pk_un (show 2 * r ≠ b by omega), pk_un (show 2 * r + 1 ≠ b by omega)]
  · rw [if_neg c, if_neg c]
    by_cases d : m < r % 3
    · rw [if_pos d, if_pos d]
      refine pk_un (fun z => h1 ⟨by omega, ?_⟩)
      rw [if_pos (by omega)]
      omega
    · rw [if_neg d, if_neg d]
      refine pk_un (fun z => h1 ⟨by omega, ?_⟩)
      rw [if_neg (by omega)]
      omega
theorem ra_un {m r k q : Nat} (h : m * 16 + r = k * 16 + q) (hr : r < 16) (hq : q < 16) : m = k ∧ r = q := by omega
/-- store, seen from outside -/
theorem ra_st {g b : Nat} {V a a' : Nat → Int32} {x : Int32} (h : ra_K g V a) (hb : b < 24)
    (h1 : ra_mem b ≠ g → a' (ra_mem b * 16 + b / 2) = x)
    (h2 : b / 2 % 3 ≠ g → a' (b / 2 % 3 * 16 + b / 2) = a (b / 2 % 3 * 16 + b / 2) ^^^ V b ^^^ x)
    (h3 : ∀ j, j ≠ ra_mem b * 16 + b / 2 → j ≠ b / 2 % 3 * 16 + b / 2 → a' j = a j) : ra_K g (upd V b x) a' := by
  intro r m hr hm hg
  by_cases c : r = b / 2 ∧ m = ra_mem b
  · obtain ⟨c1, c2⟩ := c
    subst c1 c2
    rw [h1 hg, ra_Eu]
  · by_cases d : r = b / 2 ∧ m = r % 3
    · obtain ⟨d1, d2⟩ := d
      subst d1 d2
      rw [h2 hg, h _ _ hr hm hg, ra_Ep]
    · rw [ra_En V b x hm c d, ← h r m hr hm hg]
      refine h3 _ (fun z => c ?_) (fun z => d ?_)
      · have t := ra_un z (by omega) (by omega)
        exact ⟨t.2, t.1⟩
      · have t := ra_un z (by omega) (by omega)
        refine ⟨t.2, ?_⟩
        rw [t.2]
        exact t.1
theorem ra_K0 : ra_K 3 (fun _ => 0) (fun _ => 0) := by
  intro r m _ _ _
  unfold ra_E
  by_cases c : m = r % 3
  · rw [if_pos c]
    exact (ra_xs 0).symm
  · rw [if_neg c]
    split <;> rfl
/-- a member fails: the others are as they were -/
theorem ra_fl {m : Nat} {V a a' : Nat → Int32} (h : ra_K 3 V a) (hk : ∀ j, (j < m * 16 ∨ m * 16 + 16 ≤ j) → a' j = a j) : ra_K m V a' := by
  intro r k hr hk3 hne
  rw [hk _ (by omega)]
  exact h r k hr hk3 (by omega)
theorem ra_F3 : ra_F (-1) 3 := by
  intro m hm
  have c : m = 0 ∨ m = 1 ∨ m = 2 := by omega
  rcases c with c | c | c
  · subst c; exact ⟨fun z => absurd z (by decide), fun z => absurd z (by decide)⟩
  · subst c; exact ⟨fun z => absurd z (by decide), fun z => absurd z (by decide)⟩
  · subst c; exact ⟨fun z => absurd z (by decide), fun z => absurd z (by decide)⟩
theorem ra_Fg {g : Nat} (hg : g < 3) : ra_F (nI g) g := fun m hm => nI_eq (by omega) (by omega)
theorem ra_gm {g : Nat} (hg : g < 3) : ¬ nI g = -1 := by
  have c : g = 0 ∨ g = 1 ∨ g = 2 := by omega
  rcases c with c | c | c
  · subst c; decide
  · subst c; decide
  · subst c; decide
theorem ra_V0 (V : Nat → Int32) (b : Nat) (x : Int32) : ra_V V b 0 x = V := by
  funext j
  unfold ra_V
  rw [if_neg (by omega)]
theorem ra_Vs (V : Nat → Int32) (b i : Nat) (x : Int32) : upd (ra_V V b i x) (b + i) x = ra_V V b (i + 1) x := by
  funext j
  by_cases c : j = b + i
  · subst c
    rw [pk_us]
    unfold ra_V
    rw [if_pos (by omega)]
  · rw [pk_un c]
    unfold ra_V
    by_cases d : b ≤ j ∧ j < b + i
    · rw [if_pos d, if_pos (by omega)]
    · rw [if_neg d, if_neg (by omega)]
/-- the sum of c blocks of x, all else 0 -/
theorem ra_sm {V : Nat → Int32} {b c : Nat} {x : Int32} : ∀ n, (∀ j, j < n → V j = if b ≤ j ∧ j < b + c then x else 0) → ra_sum V n = nI (min (n - b) c) * x := by
  intro n
  induction n with
  | zero =>
    intro _
    rw [show min (0 - b) c = 0 by omega]
    show (0 : Int32) = 0 * x
    rw [Int32.zero_mul]
  | succ n ih =>
    intro h
    have e : ra_sum V (n + 1) = ra_sum V n + V n := rfl
    rw [e, ih (fun j hj => h j (by omega)), h n (by omega)]
    by_cases d : b ≤ n ∧ n < b + c
    · rw [if_pos d, show min (n + 1 - b) c = min (n - b) c + 1 by omega, nI_succ, Int32.add_mul, Int32.one_mul]
    · rw [if_neg d, Int32.add_zero, show min (n + 1 - b) c = min (n - b) c by omega]
theorem ra_sm0 : ∀ n, ra_sum (fun _ => 0) n = 0 := by
  intro n
  induction n with
  | zero => rfl
  | succ n ih =>
    have e : ra_sum (fun _ => 0) (n + 1) = ra_sum (fun _ => 0) n + 0 := rfl
    rw [e, ih, Int32.add_zero]
theorem ra_smw {k : Nat} {x : Int32} (hk : k < 24) : ra_sum (upd (fun _ => 0) k x) 24 = x := by
  rw [ra_sm (b := k) (c := 1) (x := x) 24 ?_, show min (24 - k) 1 = 1 by omega]
  · show 1 * x = x
    exact Int32.one_mul x
  · intro j _
    by_cases c : j = k
    · subst c
      rw [pk_us, if_pos (by omega)]
    · rw [pk_un c, if_neg (by omega)]
theorem ra_smf {V : Nat → Int32} {b c : Nat} {x : Int32} (hb : b + c ≤ 24) (hc : 1 ≤ c) (hv : ∀ j, j ≠ b → V j = 0) : ra_sum (ra_V V b c x) 24 = nI c * x := by
  rw [ra_sm (b := b) (c := c) (x := x) 24 ?_, show min (24 - b) c = c by omega]
  intro j _
  unfold ra_V
  by_cases d : b ≤ j ∧ j < b + c
  · rw [if_pos d, if_pos d]
  · rw [if_neg d, if_neg d, hv j (by omega)]
end
section
theorem ra_ix (m r : Nat) : nI m * 16 + nI r = nI (m * 16 + r) := by
  have e : nI m * nI 16 = nI (m * 16) := pk_mul m 16
  rw [show (16 : Int32) = nI 16 from rfl, e, nI_add]
theorem ra_wwide {post : Int32 → Prop} {fr fm fv fc fo p : Int32} {a1 a2 : Nat → Int32} (h : post 0) : wpX_blockIsWide post (fr, fm, 0, fv, fc, fo, a1, a2) p := br_f (by decide) (br_f (by decide) h)
theorem ra_sh {b : Nat} (hb : b < 24) : nI b >>> ((1 : Int32) &&& 31) = nI (b / 2) := pk_shrN (by omega) _ 1 (by decide)
theorem ra_r3 {r : Nat} (hr : r < 24) : nI r - nI r / 3 * 3 = nI (r % 3) := pk_rem (d := 3) (by omega) (by omega) (by omega)
theorem ra_a1 {b : Nat} (hb : b < 24) : nI b &&& 1 = nI (b % 2) := pk_andN (by omega) 1 (by decide)
theorem ra_wrow {post : Int32 → Prop} {b : Nat} (hb : b < 24) (h : post (nI (b / 2))) : wpX_rowOf post () (nI b) 0 := br_t rfl (ek_v (ra_sh hb) h)
theorem ra_wpar {post : Int32 → Prop} {r : Nat} (hr : r < 24) (h : post (nI (r % 3))) : wpX_parityOf post () (nI r) 0 := br_t rfl ⟨by decide, ek_v (ra_r3 hr) h⟩
theorem ra_wmem {post : Int32 → Prop} {b : Nat} (hb : b < 24) (h : post (nI (ra_mem b))) : wpX_memberOf post () (nI b) 0 := by
  unfold wpX_memberOf wX_memberOf_13 wX_memberOf_27 wX_memberOf_41
  refine br_t rfl (br_t rfl ⟨by decide, br_t rfl ?_⟩)
  rw [ra_sh hb, ra_r3 (show b / 2 < 24 by omega), ra_a1 hb]
  unfold ra_mem at h
  refine pk_le (b / 2 % 3) (b % 2) (fun z => ?_) (fun z => ?_)
  · rw [if_neg (by omega)] at h
    exact ek_v (nI_1 _) h
  · rw [if_pos z] at h
    exact h
theorem ra_woth {post : Int32 → Prop} {fr fm fs fv fc fo q : Int32} {a1 a2 : Nat → Int32} {r : Nat} (hr : r < 12) (h : post (ra_ox a1 r q 3)) : wpX_others post (fr, fm, fs, fv, fc, fo, a1, a2) (nI r) q 0 :=
  br_t rfl (pk_loop (σ := Unit) (fun n i _ => wX_others_17 post (nI r) q 3 fr fm fs fv fc fo a1 a2 n (ra_ox a1 r q i) (nI i)) (fun _ _ => True) 3 0 () (by omega) trivial
    (fun n _ _ => pk_le 3 3 (fun _ => h) (fun z => absurd z (by omega)))
    (fun n i _ hi _ hw => pk_le 3 i (fun z => absurd z (by omega)) (fun _ => br_c
      (fun e => nm_r (nI_1 i) (by
        have t := hw () trivial
        dsimp only [ra_ox] at t
        rw [if_pos e] at t
        exact t))
      (fun e => ⟨pk_in (i * 16 + r) 80 (by omega) (ra_ix i r), nm_r (e' := ra_ox a1 r q (i + 1)) (by
        have t : ra_ox a1 r q (i + 1) = ra_ox a1 r q i ^^^ a1 (i * 16 + r) := if_neg e
        rw [t, ra_ix, nI_clamp (by omega)]) (nm_r (nI_1 i) (hw () trivial))⟩))))
theorem ra_wff {post : Int32 → Prop} {fr fm fs fv fc fo : Int32} {V a1 a2 : Nat → Int32} {g b : Nat} (hF : ra_F fm g) (hK : ra_K g V a1) (hb : b < 24) (h : post (V b)) : wpX_fetchFrom post (fr, fm, fs, fv, fc, fo, a1, a2) (nI b) 0 := by
  have hm := ra_mem3 b
  unfold wpX_fetchFrom
  dsimp only
  refine ra_wrow hb (ra_wmem hb (br_c (fun e => ra_woth (by omega) ?_) (fun e => ⟨pk_in (ra_mem b * 16 + b / 2) 80 (by omega) (ra_ix _ _), ?_⟩)))
  · have eg : ra_mem b = g := (hF _ hm).mp e
    have t := ra_oth hK (show b / 2 < 12 by omega) (by omega)
    rw [← eg] at t
    rw [t, ra_Em]
    exact h
  · have eg : ra_mem b ≠ g := fun z => e ((hF _ hm).mpr z)
    rw [ra_ix, nI_clamp (by omega), hK _ _ (by omega) hm eg, ra_Em]
    exact h
theorem ra_wput {post : St2 → Prop} {fr fm fs fv fc fo x : Int32} {a1 a2 : Nat → Int32} {g m r : Nat} (hF : ra_F fm g) (hm : m < 3) (hr : r < 12) (h1 : m = g → post (fr, fm, fs, fv, fc, fo, a1, a2)) (h2 : m ≠ g → post (fr, fm, fs, fv, fc, fo, upd a1 (m * 16 + r) x, a2)) : wpX_put post (fr, fm, fs, fv, fc, fo, a1, a2) (nI m) (nI r) x :=
  br_c (fun e => h1 ((hF m hm).mp e)) (fun e => ⟨pk_in (m * 16 + r) 80 (by omega) (ra_ix m r), nm_r (by rw [ra_ix, nI_clamp (by omega)]) (h2 (fun z => e ((hF m hm).mpr z)))⟩)
theorem ra_wst {post : St2 → Prop} {fm fo x : Int32} {V a1 a2 : Nat → Int32} {g b : Nat} (hF : ra_F fm g) (hK : ra_K g V a1) (hb : b < 24) (h : ∀ a, ra_K g (upd V b x) a → post (1, fm, 0, 0, 0, -1, a, a2)) : wpX_store post (1, fm, 0, 0, 0, fo, a1, a2) (nI b) x 3 := by
  have hm := ra_mem3 b
  have hmp := ra_memp b
  unfold wpX_store
  dsimp only
  refine ra_wwide (ra_wrow hb (ra_wmem hb (ra_wpar (by omega) (ra_wff hF hK hb ?_))))
  refine ⟨pk_in (b / 2 % 3 * 16 + b / 2) 80 (by omega) (ra_ix _ _), nm_r (by rw [ra_ix, nI_clamp (by omega)]) (br_f (by decide) ?_)⟩
  refine ra_wput hF hm (by omega) (fun e => ?_) (fun e => ?_)
  · refine br_f (by decide) (ra_wput hF (by omega) (by omega) (fun e2 => absurd (e.trans e2.symm) hmp) (fun e2 => br_f (by decide) (h _ ?_)))
    refine ra_st hK hb (fun z => absurd e z) (fun _ => pk_us) (fun j _ hj => pk_un hj)
  · refine br_f (by decide) (ra_wput hF (by omega) (by omega) (fun e2 => br_f (by decide) (h _ ?_)) (fun e2 => br_f (by decide) (h _ ?_)))
    · exact ra_st hK hb (fun _ => pk_us) (fun z => absurd e2 z) (fun j hj _ => pk_un hj)
    · have hne : ra_mem b * 16 + b / 2 ≠ b / 2 % 3 * 16 + b / 2 := fun z => hmp (ra_un z (by omega) (by omega)).1
      exact ra_st hK hb (fun _ => (pk_un hne).trans pk_us) (fun _ => pk_us) (fun j hj hj2 => (pk_un hj2).trans (pk_un hj))
/-- write: not a block -/
theorem ra_wwr0 {post : Int32 → St2 → Prop} {fm fo p x : Int32} {a1 a2 : Nat → Int32} (hp : p < 0 ∨ nI 24 ≤ p) (h : post (-2) (1, fm, 0, 0, 0, fo, a1, a2)) : wpX_write post (1, fm, 0, 0, 0, fo, a1, a2) p x := by
  unfold wpX_write
  dsimp only
  refine br_f (by decide) ?_
  unfold wpX_isBlock wpX_size
  dsimp only
  refine br_f (by decide) (br_c (fun _ => br_t rfl h) (fun z => br_t ?_ (br_t rfl h)))
  exact hp.resolve_left z
theorem ra_wwr {post : Int32 → St2 → Prop} {fm fo x : Int32} {V a1 a2 : Nat → Int32} {g b : Nat} (hF : ra_F fm g) (hK : ra_K g V a1) (hb : b < 24) (h : ∀ a, ra_K g (upd V b x) a → post 0 (1, fm, 0, 0, 0, -1, a, a2)) : wpX_write post (1, fm, 0, 0, 0, fo, a1, a2) (nI b) x := by
  unfold wpX_write
  dsimp only
  refine br_f (by decide) ?_
  unfold wpX_isBlock wpX_size
  dsimp only
  exact br_f (by decide) (br_f (nI_pos (by omega)) (br_f (nI_ge (b := 24) hb (by decide)) (br_f (by decide) (ra_wst hF hK hb h))))
theorem ra_wfe {post : Int32 → Prop} {fr fm fv fc fo : Int32} {V a1 a2 : Nat → Int32} {g b : Nat} (hF : ra_F fm g) (hK : ra_K g V a1) (hb : b < 24) (h : post (V b)) : wpX_fetch post (fr, fm, 0, fv, fc, fo, a1, a2) (nI b) := by
  unfold wpX_fetch
  dsimp only
  exact ra_wwide (ra_wff hF hK hb h)
theorem ra_wrd0 {post : Int32 → Prop} {fm fo p : Int32} {a1 a2 : Nat → Int32} (hp : p < 0 ∨ nI 24 ≤ p) (h : post 0) : wpX_read post (1, fm, 0, 0, 0, fo, a1, a2) p := by
  unfold wpX_read
  dsimp only
  refine br_f (by decide) ?_
  unfold wpX_isBlock wpX_size
  dsimp only
  exact br_f (by decide) (br_c (fun _ => br_t rfl h) (fun z => br_t (hp.resolve_left z) (br_t rfl h)))
theorem ra_wrd {post : Int32 → Prop} {fm fo : Int32} {V a1 a2 : Nat → Int32} {g b : Nat} (hF : ra_F fm g) (hK : ra_K g V a1) (hb : b < 24) (h : post (V b)) : wpX_read post (1, fm, 0, 0, 0, fo, a1, a2) (nI b) := by
  unfold wpX_read
  dsimp only
  refine br_f (by decide) ?_
  unfold wpX_isBlock wpX_size
  dsimp only
  exact br_f (by decide) (br_f (nI_pos (by omega)) (br_f (nI_ge (b := 24) hb (by decide)) (br_f (by decide) (ra_wfe hF hK hb h))))
theorem ra_wfl0 {post : Int32 → St2 → Prop} {fm fo p : Int32} {a1 a2 : Nat → Int32} (hp : p < 0 ∨ nI 3 ≤ p) (h : post (-2) (1, fm, 0, 0, 0, fo, a1, a2)) : wpX_fail post (1, fm, 0, 0, 0, fo, a1, a2) p := by
  unfold wpX_fail wpX_members
  dsimp only
  refine br_f (by decide) (br_t rfl (br_c (fun _ => h) (fun z => br_f (fun z2 => ?_) h)))
  exact Int32.not_le.mpr z2 (hp.resolve_left z)
theorem ra_wfl {post : Int32 → St2 → Prop} {fo : Int32} {V a1 a2 : Nat → Int32} {m : Nat} (hm : m < 3) (hK : ra_K 3 V a1) (h : ∀ a, ra_K m V a → post 0 (1, nI m, 0, 0, 0, fo, a, a2)) : wpX_fail post (1, -1, 0, 0, 0, fo, a1, a2) (nI m) := by
  unfold wpX_fail wpX_members
  dsimp only
  refine br_f (by decide) (br_t rfl (br_f (nI_pos (by omega)) (br_t (nI_lt (b := 3) hm (by omega)) (br_t rfl ?_))))
  exact pk_loop (fun n i s => wX_fail_44 post (nI m) 1 (nI m) 0 0 0 fo n (nI i) s a2) (fun _ s => ∀ j, (j < m * 16 ∨ m * 16 + 16 ≤ j) → s j = a1 j) 16 0 a1 (by omega) (fun _ _ => rfl)
    (fun n s hs => pk_le 16 16 (fun _ => h s (ra_fl hK hs)) (fun z => absurd z (by omega)))
    (fun n i s hi hs hw => pk_le 16 i (fun z => absurd z (by omega)) (fun _ => ⟨pk_in (m * 16 + i) 80 (by omega) (ra_ix m i), nm_e (nm_r (nI_1 i) (hw _ (fun j hj => by
      rw [ra_ix, nI_clamp (by omega), pk_un (by omega)]
      exact hs j hj)))⟩))
theorem ra_wsc {post : Int32 → Prop} {fo : Int32} {V a1 a2 : Nat → Int32} (hK : ra_K 3 V a1) (h : post 0) : wpX_scrub post (1, -1, 0, 0, 0, fo, a1, a2) := by
  unfold wpX_scrub
  dsimp only
  refine br_f (by decide) (br_t rfl ?_)
  refine pk_loop (σ := Unit) (fun n i _ => wX_scrub_24 post 1 (-1) 0 0 0 fo a1 a2 n 0 (nI i)) (fun _ _ => True) 12 0 () (by omega) trivial
    (fun n _ _ => pk_le 12 12 (fun _ => h) (fun z => absurd z (by omega)))
    (fun n i _ hi _ hw => pk_le 12 i (fun z => absurd z (by omega)) (fun _ => ?_))
  unfold wpX_inUse wpX_isWide
  dsimp only
  exact br_f (by decide) (br_f (by decide) (br_f (by decide) (br_f (by decide) (ra_woth hi (br_t (ra_scr hK hi) (nm_r (nI_1 i) (hw () trivial)))))))
theorem ra_wsc2 {post : Int32 → Prop} {fm fo : Int32} {a1 a2 : Nat → Int32} (hm : ¬ fm = -1) (h : post (-2)) : wpX_scrub post (1, fm, 0, 0, 0, fo, a1, a2) := br_f (by decide) (br_f hm h)
theorem ra_wsm {post : Int32 → Prop} {fm fo : Int32} {V a1 a2 : Nat → Int32} {g : Nat} (hF : ra_F fm g) (hK : ra_K g V a1) (h : post (ra_sum V 24)) : wpX_sum post (1, fm, 0, 0, 0, fo, a1, a2) := by
  unfold wpX_sum wpX_size
  dsimp only
  refine br_f (by decide) (br_f (by decide) ?_)
  exact pk_loop (σ := Unit) (fun n i _ => wX_sum_18 post 24 1 fm 0 0 0 fo a1 a2 n (ra_sum V i) (nI i)) (fun _ _ => True) 24 0 () (by omega) trivial
    (fun n _ _ => pk_le 24 24 (fun _ => h) (fun z => absurd z (by omega)))
    (fun n i _ hi _ hw => pk_le 24 i (fun z => absurd z (by omega)) (fun _ => ra_wfe hF hK hi (nm_r (e' := ra_sum V (i + 1)) rfl (nm_r (nI_1 i) (hw () trivial)))))
theorem ra_wfi {post : Int32 → St2 → Prop} {fm fo x : Int32} {V a1 a2 : Nat → Int32} {g b c : Nat} (hF : ra_F fm g) (hK : ra_K g V a1) (hc : 1 ≤ c) (hbc : b + c ≤ 24) (h : ∀ fo' a, ra_K g (ra_V V b c x) a → post 0 (1, fm, 0, 0, 0, fo', a, a2)) : wpX_fill post (1, fm, 0, 0, 0, fo, a1, a2) (nI b) (nI c) x 0 := by
  unfold wpX_fill wpX_size
  dsimp only
  refine br_f (by decide) (br_f (nI_nlt (b := 1) hc (by omega)) (br_t (nI_le (b := 24) (by omega) (by omega)) (br_f (by decide) (br_f (nI_pos (by omega)) (br_t ?_ ?_)))))
  · have e : (24 : Int32) - nI c = nI (24 - c) := pk_sub (a := 24) (by omega)
    rw [e]
    exact nI_le (by omega) (by omega)
  · refine pk_loop (σ := Int32 × (Nat → Int32)) (fun n i s => wX_fill_47 post (nI b) (nI c) x 0 n (nI i) 1 fm 0 0 0 s.1 s.2 a2) (fun i s => ra_K g (ra_V V b i x) s.2) c 0 (fo, a1) (by omega) (by rw [ra_V0]; exact hK)
      (fun n s hs => pk_le c c (fun _ => h s.1 s.2 hs) (fun z => absurd z (by omega)))
      (fun n i s hi hs hw => pk_le c i (fun z => absurd z (by omega)) (fun _ => ?_))
    rw [nI_add, Int32.mul_zero, Int32.add_zero]
    refine ra_wst hF hs (by omega) (fun a ha => nm_r (nI_1 i) (hw (-1, a) ?_))
    rw [ra_Vs] at ha
    exact ha
theorem ra_wfi2 {post : Int32 → St2 → Prop} {fm fo p x c : Int32} {a1 a2 : Nat → Int32} (hc : c < 1 ∨ ¬ c ≤ 24) (h : post (-2) (1, fm, 0, 0, 0, fo, a1, a2)) : wpX_fill post (1, fm, 0, 0, 0, fo, a1, a2) p c x 0 :=
  br_f (by decide) (br_c (fun _ => h) (fun z => br_f (hc.resolve_left z) h))
theorem ra_wfi3 {post : Int32 → St2 → Prop} {fm fo p x c : Int32} {a1 a2 : Nat → Int32} (hc : ¬ c < 1) (hc2 : c ≤ 24) (hp : p < 0 ∨ ¬ p ≤ 24 - c) (h : post (-3) (1, fm, 0, 0, 0, fo, a1, a2)) : wpX_fill post (1, fm, 0, 0, 0, fo, a1, a2) p c x 0 := by
  unfold wpX_fill wpX_size
  dsimp only
  exact br_f (by decide) (br_f hc (br_t hc2 (br_f (by decide) (br_c (fun _ => h) (fun z => br_f (hp.resolve_left z) h)))))
end
section
/-- what the law's write has left: x5 says whether p was a block -/
def ra_P (p v x5 : Int32) (V : Nat → Int32) : Prop := (x5 = 0 ∧ (p < 0 ∨ nI 24 ≤ p) ∧ V = fun _ => 0) ∨ (x5 = 1 ∧ ∃ k, k < 24 ∧ p = nI k ∧ V = upd (fun _ => 0) k v)
/-- what the law's fail has left: x6 says whether a member failed -/
def ra_G (x6 fm : Int32) (g : Nat) : Prop := (x6 = 0 ∧ fm = -1 ∧ g = 3) ∨ (x6 = 1 ∧ fm = nI g ∧ g < 3)
theorem ra_GF {x6 fm : Int32} {g : Nat} (h : ra_G x6 fm g) : ra_F fm g := by
  rcases h with ⟨_, h2, h3⟩ | ⟨_, h2, h3⟩
  · subst h2 h3
    exact ra_F3
  · subst h2
    exact ra_Fg h3
theorem ra_202 {post : Int32 → St0 → Prop} {mc ms kc ks g : Nat} {z0 fm fo : Int32} {V a1 a2 : Nat → Int32} (H : post 1 ()) (hF : ra_F fm g) (hK : ra_K g V a1) (h : ra_sum V 24 = z0) : wL_lawOf_202 post mc ms z0 kc ks 1 fm 0 0 0 fo a1 a2 := by
  unfold wL_lawOf_202
  exact ra_wsm hF hK (br_t h H)
/-- the last step behind a fill that did nothing -/
theorem ra_202n {post : Int32 → St0 → Prop} {mc ms kc ks g : Nat} {p v x5 fm fo : Int32} {V a1 a2 : Nat → Int32} (H : post 1 ()) (hF : ra_F fm g) (hK : ra_K g V a1) (hP : ra_P p v x5 V) : (x5 = 0 → wL_lawOf_202 post mc ms 0 kc ks 1 fm 0 0 0 fo a1 a2) ∧ (¬ x5 = 0 → wL_lawOf_202 post mc ms v kc ks 1 fm 0 0 0 fo a1 a2) := by
  rcases hP with ⟨h1, _, h3⟩ | ⟨h1, k, hk, _, h3⟩
  · subst h1 h3
    exact br_t rfl (ra_202 H hF hK (ra_sm0 24))
  · subst h1 h3
    exact br_f (by decide) (ra_202 H hF hK (ra_smw hk))
theorem ra_163z {post : Int32 → St0 → Prop} {mc ms kc ks g b c : Nat} {v x5 fm fo : Int32} {V a1 a2 : Nat → Int32} (H : post 1 ()) (hF : ra_F fm g) (hK : ra_K g V a1) (hP : ra_P (nI b) v x5 V) (hc : 1 ≤ c) (hbc : b + c ≤ 24) : wL_lawOf_163 post mc ms (nI b) v (nI c) x5 0 kc ks 1 fm 0 0 0 fo a1 a2 := by
  unfold wL_lawOf_163
  refine ra_wfi hF hK hc hbc (fun fo' a ha => br_t rfl (br_t rfl (ra_202 H hF ha (ra_smf hbc hc (fun j hj => ?_)))))
  rcases hP with ⟨_, _, h3⟩ | ⟨_, k, hk, hp, h3⟩
  · rw [h3]
  · rw [h3]
    have e : b = k := (nI_eq (by omega) (by omega)).mp hp
    rw [pk_un (by omega)]
theorem ra_140 {post : Int32 → St0 → Prop} {mc ms kc ks g : Nat} {p v c x5 fm fo : Int32} {V a1 a2 : Nat → Int32} (H : post 1 ()) (hF : ra_F fm g) (hK : ra_K g V a1) (hP : ra_P p v x5 V) (hc : c < 1 ∨ ¬ c ≤ 24) : wL_lawOf_140 post mc ms p v c x5 kc ks 1 fm 0 0 0 fo a1 a2 := by
  unfold wL_lawOf_140 wL_lawOf_163
  exact ra_wfi2 hc (br_t rfl (br_f (by decide) (ra_202n H hF hK hP)))
theorem ra_157 {post : Int32 → St0 → Prop} {mc ms kc ks g : Nat} {p v c x5 fm fo : Int32} {V a1 a2 : Nat → Int32} (H : post 1 ()) (hF : ra_F fm g) (hK : ra_K g V a1) (hP : ra_P p v x5 V) (hc : ¬ c < 1) (hc2 : c ≤ 24) (hp : p < 0 ∨ ¬ p ≤ 24 - c) : wL_lawOf_157 post mc ms p v c x5 kc ks 1 fm 0 0 0 fo a1 a2 := by
  unfold wL_lawOf_157 wL_lawOf_163
  exact ra_wfi3 hc hc2 hp (br_t rfl (br_f (by decide) (ra_202n H hF hK hP)))
theorem ra_124 {post : Int32 → St0 → Prop} {mc ms kc ks g : Nat} {p v c x5 z fm fo : Int32} {V a1 a2 : Nat → Int32} (H : post 1 ()) (hF : ra_F fm g) (hK : ra_K g V a1) (hP : ra_P p v x5 V) : wL_lawOf_124 post mc ms p v c x5 z z kc ks 1 fm 0 0 0 fo a1 a2 := by
  unfold wL_lawOf_124
  refine br_t rfl (br_c (fun h1 => ra_140 H hF hK hP (Or.inl h1)) (fun h1 => br_c (fun h2 => ?_) (fun h2 => ra_140 H hF hK hP (Or.inr h2))))
  refine br_c (fun h3 => ra_157 H hF hK hP h1 h2 (Or.inl h3)) (fun h3 => br_c (fun h4 => ?_) (fun h4 => ra_157 H hF hK hP h1 h2 (Or.inr h4)))
  have hc0 : ¬ c < 0 := fun z0 => h1 (Int32.lt_trans z0 (by decide))
  obtain ⟨n, hn, rfl⟩ := nI_of2 (M := 24) (n := 24) (by decide) hc0 h2
  obtain ⟨k, hk, rfl⟩ := nI_of h3
  have e : (24 : Int32) - nI n = nI (24 - n) := pk_sub (a := 24) hn
  rw [e, nI_leI (by omega) (by omega)] at h4
  have hn1 : ¬ n < 1 := fun z0 => h1 (nI_lt (b := 1) z0 (by omega))
  exact ra_163z H hF hK hP (by omega) (by omega)
theorem ra_103 {post : Int32 → St0 → Prop} {mc ms kc ks g : Nat} {p v c x5 x6 z fm fo : Int32} {V a1 a2 : Nat → Int32} (H : post 1 ()) (hG : ra_G x6 fm g) (hK : ra_K g V a1) (hP : ra_P p v x5 V) : wL_lawOf_103 post mc ms p v c x5 x6 z z kc ks 1 fm 0 0 0 fo a1 a2 := by
  have hF := ra_GF hG
  unfold wL_lawOf_103
  refine br_t rfl ?_
  rcases hG with ⟨h1, h2, h3⟩ | ⟨h1, h2, h3⟩
  · subst h1 h2 h3
    exact ra_wsc hK (br_t rfl (ra_124 H hF hK hP))
  · subst h1 h2
    exact ra_wsc2 (ra_gm h3) (br_f (by decide) (ra_124 H hF hK hP))
theorem ra_82 {post : Int32 → St0 → Prop} {mc ms kc ks g : Nat} {p v c x5 x6 z fm fo : Int32} {V a1 a2 : Nat → Int32} (H : post 1 ()) (hG : ra_G x6 fm g) (hK : ra_K g V a1) (hP : ra_P p v x5 V) : wL_lawOf_82 post mc ms p v c x5 x6 z z kc ks 1 fm 0 0 0 fo a1 a2 := by
  have hF := ra_GF hG
  have hP' := hP
  unfold wL_lawOf_82
  refine br_t rfl ?_
  rcases hP with ⟨h1, h2, h3⟩ | ⟨h1, k, hk, h2, h3⟩
  · subst h1
    exact ra_wrd0 h2 (br_t rfl (ra_103 H hG hK hP'))
  · subst h1 h2
    refine ra_wrd hF hK hk (br_f (by decide) ?_)
    have e : V k = v := by rw [h3, pk_us]
    rw [e]
    exact ra_103 H hG hK hP'
theorem ra_63 {post : Int32 → St0 → Prop} {mc ms kc ks : Nat} {p v m c x5 z fo : Int32} {V a1 a2 : Nat → Int32} (H : post 1 ()) (hK : ra_K 3 V a1) (hP : ra_P p v x5 V) (hz : (z = 0 ∧ (m < 0 ∨ nI 3 ≤ m)) ∨ (z = 1 ∧ ∃ k, k < 3 ∧ m = nI k)) : wL_lawOf_63 post mc ms p v m c x5 z kc ks 1 (-1) 0 0 0 fo a1 a2 := by
  unfold wL_lawOf_63
  rcases hz with ⟨h1, h2⟩ | ⟨h1, k, hk, h2⟩
  · subst h1
    exact ra_wfl0 h2 (br_t rfl (ra_82 (g := 3) H (Or.inl ⟨rfl, rfl, rfl⟩) hK hP))
  · subst h1 h2
    exact ra_wfl hk hK (fun a ha => br_f (by decide) (ra_82 (g := k) H (Or.inr ⟨rfl, rfl, hk⟩) ha hP))
theorem ra_44 {post : Int32 → St0 → Prop} {mc ms kc ks : Nat} {p v m c x5 z fo : Int32} {V a1 a2 : Nat → Int32} (H : post 1 ()) (hK : ra_K 3 V a1) (hP : ra_P p v x5 V) : wL_lawOf_44 post mc ms p v m c x5 z z kc ks 1 (-1) 0 0 0 fo a1 a2 := by
  unfold wL_lawOf_44 wL_lawOf_62
  refine br_t rfl (br_c (fun h1 => ra_63 H hK hP (Or.inl ⟨rfl, Or.inl h1⟩)) (fun h1 => br_c (fun h2 => ra_63 H hK hP (Or.inl ⟨rfl, Or.inr h2⟩)) (fun h2 => ra_63 H hK hP (Or.inr ⟨rfl, ?_⟩))))
  rcases pk_ix m (n := 3) (by omega) with t | t | t
  · exact absurd t h1
  · exact absurd t h2
  · exact t
theorem ra_24 {post : Int32 → St0 → Prop} {mc ms kc ks : Nat} {p v m c z : Int32} {a2 : Nat → Int32} (H : post 1 ()) (hz : (z = 0 ∧ (p < 0 ∨ nI 24 ≤ p)) ∨ (z = 1 ∧ ∃ k, k < 24 ∧ p = nI k)) : wL_lawOf_24 post mc ms p v m c z kc ks 1 (-1) 0 0 0 (-1) (fun _ => 0) a2 := by
  unfold wL_lawOf_24
  rcases hz with ⟨h1, h2⟩ | ⟨h1, k, hk, h2⟩
  · subst h1
    exact ra_wwr0 h2 (br_t rfl (ra_44 H ra_K0 (Or.inl ⟨rfl, h2, rfl⟩)))
  · subst h1 h2
    exact ra_wwr ra_F3 ra_K0 hk (fun a ha => br_f (by decide) (ra_44 H ha (Or.inr ⟨rfl, k, hk, rfl, rfl⟩)))
theorem ra_law {post : Int32 → St0 → Prop} {p v m c : Int32} (H : post 1 ()) : wpL_lawOf post 52 816 () p v m c := by
  unfold wpL_lawOf wL_lawOf_23
  refine ⟨by omega, by omega, 2, 84, by omega, by omega, ?_⟩
  unfold wpX_init
  dsimp only
  refine ⟨by omega, by omega, by omega, by omega, ?_⟩
  refine br_c (fun h1 => ra_24 H (Or.inl ⟨rfl, Or.inl h1⟩)) (fun h1 => br_c (fun h2 => ra_24 H (Or.inl ⟨rfl, Or.inr h2⟩)) (fun h2 => ra_24 H (Or.inr ⟨rfl, ?_⟩)))
  rcases pk_ix p (n := 24) (by omega) with t | t | t
  · exact absurd t h1
  · exact absurd t h2
  · exact t
theorem ra_cell {post : Int32 → Prop} {L : Nat} {xs : Nat → Int32} {q : Int32} (hL : L ≤ 4) (k : Nat) (hk : k < 4) (hq : q = nI k) (h : ∀ r, post r) : wpL_cellAt post L xs () q := by
  subst hq
  unfold wpL_cellAt
  exact pk_le L k (fun _ => h _) (fun z => ⟨pk_in k L z, h _⟩)
theorem i_vc (xs : Nat → Int32) (L : Nat) (hL : L ≤ 4) : wpL_law (fun r => r = 1) L xs := by
  unfold wpL_law
  exact ra_cell hL 0 (by omega) rfl (fun b => ra_cell hL 1 (by omega) rfl (fun v => ra_cell hL 2 (by omega) rfl (fun m => ra_cell hL 3 (by omega) rfl (fun c => ⟨52, 816, by omega, by omega, ra_law rfl⟩))))
end
