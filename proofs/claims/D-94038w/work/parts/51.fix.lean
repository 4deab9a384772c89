/-! THE FROZEN STRUCTURE: the cells that the constructors make (printed by tools/fix.py) -/
set_option maxRecDepth 100000
def fK (c : Nat) : Nat := if 88 ≤ c ∧ c < 256 then (if (c - 88) % 7 = 0 then 4 else 40) else ([1, 44, 48, 40, 40, 48, 40, 40, 42, 2, 45, 46, 3, 3, 40, 48, 40, 40, 40, 40, 40, 40, 40, 40, 40, 40, 40, 40, 40, 40, 40, 40, 40, 40, 40, 40, 40, 40, 40, 40, 48, 40, 40, 40, 40, 40, 40, 40, 40, 40, 40, 40, 40, 40, 40, 40, 40, 40, 40, 40, 40, 40, 40, 40, 40, 40, 40, 40, 43, 40, 40, 48, 0, 0, 0, 0, 0, 0, 0, 0, 0, 0, 0, 0, 0, 0, 0, 0, 0, 0, 0, 0, 0, 0, 0, 0, 0, 0, 0, 0, 0, 0, 0, 0, 0, 0, 0, 0, 0, 0, 0, 0, 0, 0, 0, 0, 0, 0, 0, 0, 0, 0, 0, 0, 0, 0, 0, 0, 0, 0, 0, 0, 0, 0, 0, 0, 0, 0, 0, 0, 0, 0, 0, 0, 0, 0, 0, 0, 0, 0, 0, 0, 0, 0, 0, 0, 0, 0, 0, 0, 0, 0, 0, 0, 0, 0, 0, 0, 0, 0, 0, 0, 0, 0, 0, 0, 0, 0, 0, 0, 0, 0, 0, 0, 0, 0, 0, 0, 0, 0, 0, 0, 0, 0, 0, 0, 0, 0, 0, 0, 0, 0, 0, 0, 0, 0, 0, 0, 0, 0, 0, 0, 0, 0, 0, 0, 0, 0, 0, 0, 0, 0, 0, 0, 0, 0, 0, 0, 0, 0, 0, 0, 0, 0, 0, 0, 0, 0, 0, 0, 0, 0, 0, 0, 0, 0, 0, 0, 0, 0, 0, 0, 7, 40, 40, 40, 41, 41, 43, 40, 40, 40, 43, 40, 40, 40, 40, 40, 40, 40, 40, 40, 40, 40, 40, 40, 40, 40, 40, 40, 43, 40, 40, 43, 40, 40, 40, 40, 40, 40, 40, 40, 40, 43, 40, 40, 41] : List Nat).getD (c - 16) 0
def fL (c : Nat) : Nat := if 88 ≤ c ∧ c < 256 then (if (c - 88) % 7 = 0 then 0 else 12) else ([0, 24, 2, 12, 12, 2, 12, 12, 1000, 0, 4, 4, 0, 0, 24, 24, 12, 12, 12, 12, 12, 12, 12, 12, 12, 12, 12, 12, 12, 12, 12, 12, 12, 12, 12, 12, 12, 12, 12, 12, 24, 12, 12, 12, 12, 12, 12, 12, 12, 12, 12, 12, 12, 12, 12, 12, 12, 12, 12, 12, 12, 12, 12, 12, 12, 10, 20, 20, 20, 9, 9, 4, 0, 0, 0, 0, 0, 0, 0, 0, 0, 0, 0, 0, 0, 0, 0, 0, 0, 0, 0, 0, 0, 0, 0, 0, 0, 0, 0, 0, 0, 0, 0, 0, 0, 0, 0, 0, 0, 0, 0, 0, 0, 0, 0, 0, 0, 0, 0, 0, 0, 0, 0, 0, 0, 0, 0, 0, 0, 0, 0, 0, 0, 0, 0, 0, 0, 0, 0, 0, 0, 0, 0, 0, 0, 0, 0, 0, 0, 0, 0, 0, 0, 0, 0, 0, 0, 0, 0, 0, 0, 0, 0, 0, 0, 0, 0, 0, 0, 0, 0, 0, 0, 0, 0, 0, 0, 0, 0, 0, 0, 0, 0, 0, 0, 0, 0, 0, 0, 0, 0, 0, 0, 0, 0, 0, 0, 0, 0, 0, 0, 0, 0, 0, 0, 0, 0, 0, 0, 0, 0, 0, 0, 0, 0, 0, 0, 0, 0, 0, 0, 0, 0, 0, 0, 0, 0, 0, 0, 0, 0, 0, 0, 0, 0, 0, 0, 0, 0, 0, 0, 0, 0, 0, 0, 0, 0, 0, 0, 0, 0, 0, 0, 1000, 1002, 1002, 1002, 28, 24, 24, 24, 24, 24, 24, 24, 288, 288, 288, 288, 288, 288, 24, 20, 9900, 9900, 9, 10, 1100, 288, 288, 288, 20, 20, 20, 4, 4, 4, 4, 4, 288, 288, 9, 9, 4, 4, 6912, 1] : List Nat).getD (c - 16) 0
def fRx (k : Nat) : Option Nat := ([some 17, some 18, some 21, some 24, some 25, some 26, some 27, none, none, none, some 28, some 29, some 30, none, none, none, some 31, some 56, some 81, some 82, some 83, some 84, none, some 85, some 86, none, none, some 87] : List (Option Nat)).getD k none
def fRm (k : Nat) : Option Nat := ([none, some 269, none, none, some 270, some 271, some 272, none, none, some 273, some 274, some 275, some 276, some 277, some 278, none, some 279, some 280, some 281, some 282, some 283, some 284, some 285, some 286, none, none, none, none, none, none, some 287, some 288, none, some 289, some 290, some 291, some 292, some 293, some 294, some 295, some 296, none, some 297, some 298, some 299, none, some 300, some 301, some 302, some 303, some 304, some 305, some 306, some 307, some 308, some 309, some 310, some 311] : List (Option Nat)).getD k none
def fKc (c : Nat) : Bool := (decide (16 ≤ c) && decide (c < 256)) || (decide (268 ≤ c) && decide (c < 313))
/-- the frozen structure -/
def gFix (M : gM) : Prop := 313 ≤ gn M ∧ (∀ c : Nat, fKc c = true → gk M c = fK c ∧ gl M c = fL c) ∧ (∀ k : Nat, (fRx k).isSome = true → gR M 16 k = fRx k) ∧ (∀ k : Nat, (fRm k).isSome = true → gR M 268 k = fRm k) ∧
  (∀ k : Nat, k < 24 → gR M 17 k = some (88 + 7 * k) ∧ gR M 31 k = some (32 + k) ∧ gR M 56 k = some (57 + k) ∧ ∀ j : Nat, j < 6 → gR M (88 + 7 * k) (5 + j) = some (89 + 7 * k + j)) ∧ ∀ b : Nat, b < 2 → gR M 18 b = some (19 + b) ∧ gR M 21 b = some (22 + b)
theorem gFix_sI {M : gM} {c k : Nat} {v : Int32} : gFix (gsI M c k v) = gFix M := rfl
theorem gFix_sL {M : gM} {c k : Nat} {v : Int64} : gFix (gsL M c k v) = gFix M := rfl
/-- where references may be stored -/
def gFree9 (c : Nat) : Prop := c = 25 ∨ c = 26 ∨ c = 27 ∨ c = 87 ∨ 312 ≤ c
theorem gFix_sR {M : gM} {c k : Nat} {v : Option Nat} (hc : gFree9 c) (h : gFix M) : gFix (gsR M c k v) := by
  obtain ⟨h0, h1, h2, h3, h4, h5⟩ := h
  unfold gFree9 at hc
  refine ⟨h0, h1, fun j hj => ?_, fun j hj => ?_, fun j hj => ⟨?_, ?_, ?_, fun i hi => ?_⟩, fun j hj => ⟨?_, ?_⟩⟩
  · rw [gR_sR, if_neg (by omega)]; exact h2 j hj
  · rw [gR_sR, if_neg (by omega)]; exact h3 j hj
  · rw [gR_sR, if_neg (by omega)]; exact (h4 j hj).1
  · rw [gR_sR, if_neg (by omega)]; exact (h4 j hj).2.1
  · rw [gR_sR, if_neg (by omega)]; exact (h4 j hj).2.2.1
  · rw [gR_sR, if_neg (by omega)]; exact (h4 j hj).2.2.2 i hi
  · rw [gR_sR, if_neg (by omega)]; exact (h5 j hj).1
  · rw [gR_sR, if_neg (by omega)]; exact (h5 j hj).2
theorem gFix_new {M : gM} {kd len sz : Nat} (h : gFix M) : gFix (gnew M kd len sz) := by
  obtain ⟨h0, h1, h2, h3, h4, h5⟩ := h
  refine ⟨by rw [gn_new]; omega, fun c hc => ?_, fun j hj => ?_, fun j hj => ?_, fun j hj => ⟨?_, ?_, ?_, fun i hi => ?_⟩, fun j hj => ⟨?_, ?_⟩⟩
  · have : c < 313 := by simp [fKc] at hc; omega
    rw [gk_new, gl_new, if_neg (by omega), if_neg (by omega)]; exact h1 c hc
  · rw [gR_new, if_neg (by omega)]; exact h2 j hj
  · rw [gR_new, if_neg (by omega)]; exact h3 j hj
  · rw [gR_new, if_neg (by omega)]; exact (h4 j hj).1
  · rw [gR_new, if_neg (by omega)]; exact (h4 j hj).2.1
  · rw [gR_new, if_neg (by omega)]; exact (h4 j hj).2.2.1
  · rw [gR_new, if_neg (by omega)]; exact (h4 j hj).2.2.2 i hi
  · rw [gR_new, if_neg (by omega)]; exact (h5 j hj).1
  · rw [gR_new, if_neg (by omega)]; exact (h5 j hj).2

theorem fk16 {M : gM} (h : gFix M) : gk M 16 = 1 := (h.2.1 16 rfl).1
theorem fk17 {M : gM} (h : gFix M) : gk M 17 = 44 := (h.2.1 17 rfl).1
theorem fl17 {M : gM} (h : gFix M) : gl M 17 = 24 := (h.2.1 17 rfl).2
theorem fk18 {M : gM} (h : gFix M) : gk M 18 = 48 := (h.2.1 18 rfl).1
theorem fl18 {M : gM} (h : gFix M) : gl M 18 = 2 := (h.2.1 18 rfl).2
theorem fk19 {M : gM} (h : gFix M) : gk M 19 = 40 := (h.2.1 19 rfl).1
theorem fl19 {M : gM} (h : gFix M) : gl M 19 = 12 := (h.2.1 19 rfl).2
theorem fk20 {M : gM} (h : gFix M) : gk M 20 = 40 := (h.2.1 20 rfl).1
theorem fl20 {M : gM} (h : gFix M) : gl M 20 = 12 := (h.2.1 20 rfl).2
theorem fk21 {M : gM} (h : gFix M) : gk M 21 = 48 := (h.2.1 21 rfl).1
theorem fl21 {M : gM} (h : gFix M) : gl M 21 = 2 := (h.2.1 21 rfl).2
theorem fk22 {M : gM} (h : gFix M) : gk M 22 = 40 := (h.2.1 22 rfl).1
theorem fl22 {M : gM} (h : gFix M) : gl M 22 = 12 := (h.2.1 22 rfl).2
theorem fk23 {M : gM} (h : gFix M) : gk M 23 = 40 := (h.2.1 23 rfl).1
theorem fl23 {M : gM} (h : gFix M) : gl M 23 = 12 := (h.2.1 23 rfl).2
theorem fk24 {M : gM} (h : gFix M) : gk M 24 = 42 := (h.2.1 24 rfl).1
theorem fl24 {M : gM} (h : gFix M) : gl M 24 = 1000 := (h.2.1 24 rfl).2
theorem fk25 {M : gM} (h : gFix M) : gk M 25 = 2 := (h.2.1 25 rfl).1
theorem fk26 {M : gM} (h : gFix M) : gk M 26 = 45 := (h.2.1 26 rfl).1
theorem fl26 {M : gM} (h : gFix M) : gl M 26 = 4 := (h.2.1 26 rfl).2
theorem fk27 {M : gM} (h : gFix M) : gk M 27 = 46 := (h.2.1 27 rfl).1
theorem fl27 {M : gM} (h : gFix M) : gl M 27 = 4 := (h.2.1 27 rfl).2
theorem fk28 {M : gM} (h : gFix M) : gk M 28 = 3 := (h.2.1 28 rfl).1
theorem fk29 {M : gM} (h : gFix M) : gk M 29 = 3 := (h.2.1 29 rfl).1
theorem fk30 {M : gM} (h : gFix M) : gk M 30 = 40 := (h.2.1 30 rfl).1
theorem fl30 {M : gM} (h : gFix M) : gl M 30 = 24 := (h.2.1 30 rfl).2
theorem fk31 {M : gM} (h : gFix M) : gk M 31 = 48 := (h.2.1 31 rfl).1
theorem fl31 {M : gM} (h : gFix M) : gl M 31 = 24 := (h.2.1 31 rfl).2
theorem fk56 {M : gM} (h : gFix M) : gk M 56 = 48 := (h.2.1 56 rfl).1
theorem fl56 {M : gM} (h : gFix M) : gl M 56 = 24 := (h.2.1 56 rfl).2
theorem fk81 {M : gM} (h : gFix M) : gk M 81 = 40 := (h.2.1 81 rfl).1
theorem fl81 {M : gM} (h : gFix M) : gl M 81 = 10 := (h.2.1 81 rfl).2
theorem fk82 {M : gM} (h : gFix M) : gk M 82 = 40 := (h.2.1 82 rfl).1
theorem fl82 {M : gM} (h : gFix M) : gl M 82 = 20 := (h.2.1 82 rfl).2
theorem fk83 {M : gM} (h : gFix M) : gk M 83 = 40 := (h.2.1 83 rfl).1
theorem fl83 {M : gM} (h : gFix M) : gl M 83 = 20 := (h.2.1 83 rfl).2
theorem fk84 {M : gM} (h : gFix M) : gk M 84 = 43 := (h.2.1 84 rfl).1
theorem fl84 {M : gM} (h : gFix M) : gl M 84 = 20 := (h.2.1 84 rfl).2
theorem fk85 {M : gM} (h : gFix M) : gk M 85 = 40 := (h.2.1 85 rfl).1
theorem fl85 {M : gM} (h : gFix M) : gl M 85 = 9 := (h.2.1 85 rfl).2
theorem fk86 {M : gM} (h : gFix M) : gk M 86 = 40 := (h.2.1 86 rfl).1
theorem fl86 {M : gM} (h : gFix M) : gl M 86 = 9 := (h.2.1 86 rfl).2
theorem fk87 {M : gM} (h : gFix M) : gk M 87 = 48 := (h.2.1 87 rfl).1
theorem fl87 {M : gM} (h : gFix M) : gl M 87 = 4 := (h.2.1 87 rfl).2
theorem fk268 {M : gM} (h : gFix M) : gk M 268 = 7 := (h.2.1 268 rfl).1
theorem fk269 {M : gM} (h : gFix M) : gk M 269 = 40 := (h.2.1 269 rfl).1
theorem fl269 {M : gM} (h : gFix M) : gl M 269 = 1000 := (h.2.1 269 rfl).2
theorem fk270 {M : gM} (h : gFix M) : gk M 270 = 40 := (h.2.1 270 rfl).1
theorem fl270 {M : gM} (h : gFix M) : gl M 270 = 1002 := (h.2.1 270 rfl).2
theorem fk271 {M : gM} (h : gFix M) : gk M 271 = 40 := (h.2.1 271 rfl).1
theorem fl271 {M : gM} (h : gFix M) : gl M 271 = 1002 := (h.2.1 271 rfl).2
theorem fk272 {M : gM} (h : gFix M) : gk M 272 = 41 := (h.2.1 272 rfl).1
theorem fl272 {M : gM} (h : gFix M) : gl M 272 = 1002 := (h.2.1 272 rfl).2
theorem fk273 {M : gM} (h : gFix M) : gk M 273 = 41 := (h.2.1 273 rfl).1
theorem fl273 {M : gM} (h : gFix M) : gl M 273 = 28 := (h.2.1 273 rfl).2
theorem fk274 {M : gM} (h : gFix M) : gk M 274 = 43 := (h.2.1 274 rfl).1
theorem fl274 {M : gM} (h : gFix M) : gl M 274 = 24 := (h.2.1 274 rfl).2
theorem fk275 {M : gM} (h : gFix M) : gk M 275 = 40 := (h.2.1 275 rfl).1
theorem fl275 {M : gM} (h : gFix M) : gl M 275 = 24 := (h.2.1 275 rfl).2
theorem fk276 {M : gM} (h : gFix M) : gk M 276 = 40 := (h.2.1 276 rfl).1
theorem fl276 {M : gM} (h : gFix M) : gl M 276 = 24 := (h.2.1 276 rfl).2
theorem fk277 {M : gM} (h : gFix M) : gk M 277 = 40 := (h.2.1 277 rfl).1
theorem fl277 {M : gM} (h : gFix M) : gl M 277 = 24 := (h.2.1 277 rfl).2
theorem fk278 {M : gM} (h : gFix M) : gk M 278 = 43 := (h.2.1 278 rfl).1
theorem fl278 {M : gM} (h : gFix M) : gl M 278 = 24 := (h.2.1 278 rfl).2
theorem fk279 {M : gM} (h : gFix M) : gk M 279 = 40 := (h.2.1 279 rfl).1
theorem fl279 {M : gM} (h : gFix M) : gl M 279 = 24 := (h.2.1 279 rfl).2
theorem fk280 {M : gM} (h : gFix M) : gk M 280 = 40 := (h.2.1 280 rfl).1
theorem fl280 {M : gM} (h : gFix M) : gl M 280 = 24 := (h.2.1 280 rfl).2
theorem fk281 {M : gM} (h : gFix M) : gk M 281 = 40 := (h.2.1 281 rfl).1
theorem fl281 {M : gM} (h : gFix M) : gl M 281 = 288 := (h.2.1 281 rfl).2
theorem fk282 {M : gM} (h : gFix M) : gk M 282 = 40 := (h.2.1 282 rfl).1
theorem fl282 {M : gM} (h : gFix M) : gl M 282 = 288 := (h.2.1 282 rfl).2
theorem fk283 {M : gM} (h : gFix M) : gk M 283 = 40 := (h.2.1 283 rfl).1
theorem fl283 {M : gM} (h : gFix M) : gl M 283 = 288 := (h.2.1 283 rfl).2
theorem fk284 {M : gM} (h : gFix M) : gk M 284 = 40 := (h.2.1 284 rfl).1
theorem fl284 {M : gM} (h : gFix M) : gl M 284 = 288 := (h.2.1 284 rfl).2
theorem fk285 {M : gM} (h : gFix M) : gk M 285 = 40 := (h.2.1 285 rfl).1
theorem fl285 {M : gM} (h : gFix M) : gl M 285 = 288 := (h.2.1 285 rfl).2
theorem fk286 {M : gM} (h : gFix M) : gk M 286 = 40 := (h.2.1 286 rfl).1
theorem fl286 {M : gM} (h : gFix M) : gl M 286 = 288 := (h.2.1 286 rfl).2
theorem fk287 {M : gM} (h : gFix M) : gk M 287 = 40 := (h.2.1 287 rfl).1
theorem fl287 {M : gM} (h : gFix M) : gl M 287 = 24 := (h.2.1 287 rfl).2
theorem fk288 {M : gM} (h : gFix M) : gk M 288 = 40 := (h.2.1 288 rfl).1
theorem fl288 {M : gM} (h : gFix M) : gl M 288 = 20 := (h.2.1 288 rfl).2
theorem fk289 {M : gM} (h : gFix M) : gk M 289 = 40 := (h.2.1 289 rfl).1
theorem fl289 {M : gM} (h : gFix M) : gl M 289 = 9900 := (h.2.1 289 rfl).2
theorem fk290 {M : gM} (h : gFix M) : gk M 290 = 40 := (h.2.1 290 rfl).1
theorem fl290 {M : gM} (h : gFix M) : gl M 290 = 9900 := (h.2.1 290 rfl).2
theorem fk291 {M : gM} (h : gFix M) : gk M 291 = 40 := (h.2.1 291 rfl).1
theorem fl291 {M : gM} (h : gFix M) : gl M 291 = 9 := (h.2.1 291 rfl).2
theorem fk292 {M : gM} (h : gFix M) : gk M 292 = 40 := (h.2.1 292 rfl).1
theorem fl292 {M : gM} (h : gFix M) : gl M 292 = 10 := (h.2.1 292 rfl).2
theorem fk293 {M : gM} (h : gFix M) : gk M 293 = 40 := (h.2.1 293 rfl).1
theorem fl293 {M : gM} (h : gFix M) : gl M 293 = 1100 := (h.2.1 293 rfl).2
theorem fk294 {M : gM} (h : gFix M) : gk M 294 = 40 := (h.2.1 294 rfl).1
theorem fl294 {M : gM} (h : gFix M) : gl M 294 = 288 := (h.2.1 294 rfl).2
theorem fk295 {M : gM} (h : gFix M) : gk M 295 = 40 := (h.2.1 295 rfl).1
theorem fl295 {M : gM} (h : gFix M) : gl M 295 = 288 := (h.2.1 295 rfl).2
theorem fk296 {M : gM} (h : gFix M) : gk M 296 = 43 := (h.2.1 296 rfl).1
theorem fl296 {M : gM} (h : gFix M) : gl M 296 = 288 := (h.2.1 296 rfl).2
theorem fk297 {M : gM} (h : gFix M) : gk M 297 = 40 := (h.2.1 297 rfl).1
theorem fl297 {M : gM} (h : gFix M) : gl M 297 = 20 := (h.2.1 297 rfl).2
theorem fk298 {M : gM} (h : gFix M) : gk M 298 = 40 := (h.2.1 298 rfl).1
theorem fl298 {M : gM} (h : gFix M) : gl M 298 = 20 := (h.2.1 298 rfl).2
theorem fk299 {M : gM} (h : gFix M) : gk M 299 = 43 := (h.2.1 299 rfl).1
theorem fl299 {M : gM} (h : gFix M) : gl M 299 = 20 := (h.2.1 299 rfl).2
theorem fk300 {M : gM} (h : gFix M) : gk M 300 = 40 := (h.2.1 300 rfl).1
theorem fl300 {M : gM} (h : gFix M) : gl M 300 = 4 := (h.2.1 300 rfl).2
theorem fk301 {M : gM} (h : gFix M) : gk M 301 = 40 := (h.2.1 301 rfl).1
theorem fl301 {M : gM} (h : gFix M) : gl M 301 = 4 := (h.2.1 301 rfl).2
theorem fk302 {M : gM} (h : gFix M) : gk M 302 = 40 := (h.2.1 302 rfl).1
theorem fl302 {M : gM} (h : gFix M) : gl M 302 = 4 := (h.2.1 302 rfl).2
theorem fk303 {M : gM} (h : gFix M) : gk M 303 = 40 := (h.2.1 303 rfl).1
theorem fl303 {M : gM} (h : gFix M) : gl M 303 = 4 := (h.2.1 303 rfl).2
theorem fk304 {M : gM} (h : gFix M) : gk M 304 = 40 := (h.2.1 304 rfl).1
theorem fl304 {M : gM} (h : gFix M) : gl M 304 = 4 := (h.2.1 304 rfl).2
theorem fk305 {M : gM} (h : gFix M) : gk M 305 = 40 := (h.2.1 305 rfl).1
theorem fl305 {M : gM} (h : gFix M) : gl M 305 = 288 := (h.2.1 305 rfl).2
theorem fk306 {M : gM} (h : gFix M) : gk M 306 = 40 := (h.2.1 306 rfl).1
theorem fl306 {M : gM} (h : gFix M) : gl M 306 = 288 := (h.2.1 306 rfl).2
theorem fk307 {M : gM} (h : gFix M) : gk M 307 = 40 := (h.2.1 307 rfl).1
theorem fl307 {M : gM} (h : gFix M) : gl M 307 = 9 := (h.2.1 307 rfl).2
theorem fk308 {M : gM} (h : gFix M) : gk M 308 = 40 := (h.2.1 308 rfl).1
theorem fl308 {M : gM} (h : gFix M) : gl M 308 = 9 := (h.2.1 308 rfl).2
theorem fk309 {M : gM} (h : gFix M) : gk M 309 = 43 := (h.2.1 309 rfl).1
theorem fl309 {M : gM} (h : gFix M) : gl M 309 = 4 := (h.2.1 309 rfl).2
theorem fk310 {M : gM} (h : gFix M) : gk M 310 = 40 := (h.2.1 310 rfl).1
theorem fl310 {M : gM} (h : gFix M) : gl M 310 = 4 := (h.2.1 310 rfl).2
theorem fk311 {M : gM} (h : gFix M) : gk M 311 = 40 := (h.2.1 311 rfl).1
theorem fl311 {M : gM} (h : gFix M) : gl M 311 = 6912 := (h.2.1 311 rfl).2
theorem fk312 {M : gM} (h : gFix M) : gk M 312 = 41 := (h.2.1 312 rfl).1
theorem fl312 {M : gM} (h : gFix M) : gl M 312 = 1 := (h.2.1 312 rfl).2
theorem frx0 {M : gM} (h : gFix M) : gR M 16 0 = some 17 := h.2.2.1 0 rfl
theorem frx1 {M : gM} (h : gFix M) : gR M 16 1 = some 18 := h.2.2.1 1 rfl
theorem frx2 {M : gM} (h : gFix M) : gR M 16 2 = some 21 := h.2.2.1 2 rfl
theorem frx3 {M : gM} (h : gFix M) : gR M 16 3 = some 24 := h.2.2.1 3 rfl
theorem frx4 {M : gM} (h : gFix M) : gR M 16 4 = some 25 := h.2.2.1 4 rfl
theorem frx5 {M : gM} (h : gFix M) : gR M 16 5 = some 26 := h.2.2.1 5 rfl
theorem frx6 {M : gM} (h : gFix M) : gR M 16 6 = some 27 := h.2.2.1 6 rfl
theorem frx10 {M : gM} (h : gFix M) : gR M 16 10 = some 28 := h.2.2.1 10 rfl
theorem frx11 {M : gM} (h : gFix M) : gR M 16 11 = some 29 := h.2.2.1 11 rfl
theorem frx12 {M : gM} (h : gFix M) : gR M 16 12 = some 30 := h.2.2.1 12 rfl
theorem frx16 {M : gM} (h : gFix M) : gR M 16 16 = some 31 := h.2.2.1 16 rfl
theorem frx17 {M : gM} (h : gFix M) : gR M 16 17 = some 56 := h.2.2.1 17 rfl
theorem frx18 {M : gM} (h : gFix M) : gR M 16 18 = some 81 := h.2.2.1 18 rfl
theorem frx19 {M : gM} (h : gFix M) : gR M 16 19 = some 82 := h.2.2.1 19 rfl
theorem frx20 {M : gM} (h : gFix M) : gR M 16 20 = some 83 := h.2.2.1 20 rfl
theorem frx21 {M : gM} (h : gFix M) : gR M 16 21 = some 84 := h.2.2.1 21 rfl
theorem frx23 {M : gM} (h : gFix M) : gR M 16 23 = some 85 := h.2.2.1 23 rfl
theorem frx24 {M : gM} (h : gFix M) : gR M 16 24 = some 86 := h.2.2.1 24 rfl
theorem frx27 {M : gM} (h : gFix M) : gR M 16 27 = some 87 := h.2.2.1 27 rfl
theorem frm1 {M : gM} (h : gFix M) : gR M 268 1 = some 269 := h.2.2.2.1 1 rfl
theorem frm4 {M : gM} (h : gFix M) : gR M 268 4 = some 270 := h.2.2.2.1 4 rfl
theorem frm5 {M : gM} (h : gFix M) : gR M 268 5 = some 271 := h.2.2.2.1 5 rfl
theorem frm6 {M : gM} (h : gFix M) : gR M 268 6 = some 272 := h.2.2.2.1 6 rfl
theorem frm9 {M : gM} (h : gFix M) : gR M 268 9 = some 273 := h.2.2.2.1 9 rfl
theorem frm10 {M : gM} (h : gFix M) : gR M 268 10 = some 274 := h.2.2.2.1 10 rfl
theorem frm11 {M : gM} (h : gFix M) : gR M 268 11 = some 275 := h.2.2.2.1 11 rfl
theorem frm12 {M : gM} (h : gFix M) : gR M 268 12 = some 276 := h.2.2.2.1 12 rfl
theorem frm13 {M : gM} (h : gFix M) : gR M 268 13 = some 277 := h.2.2.2.1 13 rfl
theorem frm14 {M : gM} (h : gFix M) : gR M 268 14 = some 278 := h.2.2.2.1 14 rfl
theorem frm16 {M : gM} (h : gFix M) : gR M 268 16 = some 279 := h.2.2.2.1 16 rfl
theorem frm17 {M : gM} (h : gFix M) : gR M 268 17 = some 280 := h.2.2.2.1 17 rfl
theorem frm18 {M : gM} (h : gFix M) : gR M 268 18 = some 281 := h.2.2.2.1 18 rfl
theorem frm19 {M : gM} (h : gFix M) : gR M 268 19 = some 282 := h.2.2.2.1 19 rfl
theorem frm20 {M : gM} (h : gFix M) : gR M 268 20 = some 283 := h.2.2.2.1 20 rfl
theorem frm21 {M : gM} (h : gFix M) : gR M 268 21 = some 284 := h.2.2.2.1 21 rfl
theorem frm22 {M : gM} (h : gFix M) : gR M 268 22 = some 285 := h.2.2.2.1 22 rfl
theorem frm23 {M : gM} (h : gFix M) : gR M 268 23 = some 286 := h.2.2.2.1 23 rfl
theorem frm30 {M : gM} (h : gFix M) : gR M 268 30 = some 287 := h.2.2.2.1 30 rfl
theorem frm31 {M : gM} (h : gFix M) : gR M 268 31 = some 288 := h.2.2.2.1 31 rfl
theorem frm33 {M : gM} (h : gFix M) : gR M 268 33 = some 289 := h.2.2.2.1 33 rfl
theorem frm34 {M : gM} (h : gFix M) : gR M 268 34 = some 290 := h.2.2.2.1 34 rfl
theorem frm35 {M : gM} (h : gFix M) : gR M 268 35 = some 291 := h.2.2.2.1 35 rfl
theorem frm36 {M : gM} (h : gFix M) : gR M 268 36 = some 292 := h.2.2.2.1 36 rfl
theorem frm37 {M : gM} (h : gFix M) : gR M 268 37 = some 293 := h.2.2.2.1 37 rfl
theorem frm38 {M : gM} (h : gFix M) : gR M 268 38 = some 294 := h.2.2.2.1 38 rfl
theorem frm39 {M : gM} (h : gFix M) : gR M 268 39 = some 295 := h.2.2.2.1 39 rfl
theorem frm40 {M : gM} (h : gFix M) : gR M 268 40 = some 296 := h.2.2.2.1 40 rfl
theorem frm42 {M : gM} (h : gFix M) : gR M 268 42 = some 297 := h.2.2.2.1 42 rfl
theorem frm43 {M : gM} (h : gFix M) : gR M 268 43 = some 298 := h.2.2.2.1 43 rfl
theorem frm44 {M : gM} (h : gFix M) : gR M 268 44 = some 299 := h.2.2.2.1 44 rfl
theorem frm46 {M : gM} (h : gFix M) : gR M 268 46 = some 300 := h.2.2.2.1 46 rfl
theorem frm47 {M : gM} (h : gFix M) : gR M 268 47 = some 301 := h.2.2.2.1 47 rfl
theorem frm48 {M : gM} (h : gFix M) : gR M 268 48 = some 302 := h.2.2.2.1 48 rfl
theorem frm49 {M : gM} (h : gFix M) : gR M 268 49 = some 303 := h.2.2.2.1 49 rfl
theorem frm50 {M : gM} (h : gFix M) : gR M 268 50 = some 304 := h.2.2.2.1 50 rfl
theorem frm51 {M : gM} (h : gFix M) : gR M 268 51 = some 305 := h.2.2.2.1 51 rfl
theorem frm52 {M : gM} (h : gFix M) : gR M 268 52 = some 306 := h.2.2.2.1 52 rfl
theorem frm53 {M : gM} (h : gFix M) : gR M 268 53 = some 307 := h.2.2.2.1 53 rfl
theorem frm54 {M : gM} (h : gFix M) : gR M 268 54 = some 308 := h.2.2.2.1 54 rfl
theorem frm55 {M : gM} (h : gFix M) : gR M 268 55 = some 309 := h.2.2.2.1 55 rfl
theorem frm56 {M : gM} (h : gFix M) : gR M 268 56 = some 310 := h.2.2.2.1 56 rfl
theorem frm57 {M : gM} (h : gFix M) : gR M 268 57 = some 311 := h.2.2.2.1 57 rfl
theorem fkK {M : gM} (h : gFix M) {k : Nat} (hk : k < 24) : gk M (88 + 7 * k) = 4 := by
  rw [(h.2.1 _ (by simp [fKc]; omega)).1]
  unfold fK
  rw [if_pos (by omega), if_pos (by omega)]
theorem fkA {M : gM} (h : gFix M) {k j : Nat} (hk : k < 24) (hj : j < 6) : gk M (89 + 7 * k + j) = 40 := by
  rw [(h.2.1 _ (by simp [fKc]; omega)).1]
  unfold fK
  rw [if_pos (by omega), if_neg (by omega)]
theorem flA {M : gM} (h : gFix M) {k j : Nat} (hk : k < 24) (hj : j < 6) : gl M (89 + 7 * k + j) = 12 := by
  rw [(h.2.1 _ (by simp [fKc]; omega)).2]
  unfold fL
  rw [if_pos (by omega), if_neg (by omega)]
theorem frK {M : gM} (h : gFix M) {k : Nat} (hk : k < 24) : gR M 17 k = some (88 + 7 * k) := (h.2.2.2.2.1 k hk).1
theorem frW {M : gM} (h : gFix M) {k : Nat} (hk : k < 24) : gR M 31 k = some (32 + k) := (h.2.2.2.2.1 k hk).2.1
theorem frH {M : gM} (h : gFix M) {k : Nat} (hk : k < 24) : gR M 56 k = some (57 + k) := (h.2.2.2.2.1 k hk).2.2.1
theorem frA {M : gM} (h : gFix M) {k j : Nat} (hk : k < 24) (hj : j < 6) : gR M (88 + 7 * k) (5 + j) = some (89 + 7 * k + j) := (h.2.2.2.2.1 k hk).2.2.2 j hj
theorem frF {M : gM} (h : gFix M) {b : Nat} (hb : b < 2) : gR M 18 b = some (19 + b) := (h.2.2.2.2.2 b hb).1
theorem frT {M : gM} (h : gFix M) {b : Nat} (hb : b < 2) : gR M 21 b = some (22 + b) := (h.2.2.2.2.2 b hb).2
theorem frA5 {M : gM} (h : gFix M) {k : Nat} (hk : k < 24) : gR M (88 + 7 * k) 5 = some (89 + 7 * k + 0) := frA h hk (j := 0) (by decide)
theorem frA6 {M : gM} (h : gFix M) {k : Nat} (hk : k < 24) : gR M (88 + 7 * k) 6 = some (89 + 7 * k + 1) := frA h hk (j := 1) (by decide)
theorem frA7 {M : gM} (h : gFix M) {k : Nat} (hk : k < 24) : gR M (88 + 7 * k) 7 = some (89 + 7 * k + 2) := frA h hk (j := 2) (by decide)
theorem frA8 {M : gM} (h : gFix M) {k : Nat} (hk : k < 24) : gR M (88 + 7 * k) 8 = some (89 + 7 * k + 3) := frA h hk (j := 3) (by decide)
theorem frA9 {M : gM} (h : gFix M) {k : Nat} (hk : k < 24) : gR M (88 + 7 * k) 9 = some (89 + 7 * k + 4) := frA h hk (j := 4) (by decide)
theorem frA10 {M : gM} (h : gFix M) {k : Nat} (hk : k < 24) : gR M (88 + 7 * k) 10 = some (89 + 7 * k + 5) := frA h hk (j := 5) (by decide)
theorem fkW {M : gM} (h : gFix M) {k : Nat} (hk : k < 24) : gk M (32 + k) = 40 := by
  have e : ∀ i : Nat, i < 24 → fKc (32 + i) = true ∧ fK (32 + i) = 40 := by decide
  rw [(h.2.1 _ (e k hk).1).1]; exact (e k hk).2
theorem flW {M : gM} (h : gFix M) {k : Nat} (hk : k < 24) : gl M (32 + k) = 12 := by
  have e : ∀ i : Nat, i < 24 → fKc (32 + i) = true ∧ fL (32 + i) = 12 := by decide
  rw [(h.2.1 _ (e k hk).1).2]; exact (e k hk).2
theorem fkH {M : gM} (h : gFix M) {k : Nat} (hk : k < 24) : gk M (57 + k) = 40 := by
  have e : ∀ i : Nat, i < 24 → fKc (57 + i) = true ∧ fK (57 + i) = 40 := by decide
  rw [(h.2.1 _ (e k hk).1).1]; exact (e k hk).2
theorem flH {M : gM} (h : gFix M) {k : Nat} (hk : k < 24) : gl M (57 + k) = 12 := by
  have e : ∀ i : Nat, i < 24 → fKc (57 + i) = true ∧ fL (57 + i) = 12 := by decide
  rw [(h.2.1 _ (e k hk).1).2]; exact (e k hk).2
theorem fkF {M : gM} (h : gFix M) {k : Nat} (hk : k < 2) : gk M (19 + k) = 40 := by
  have e : ∀ i : Nat, i < 2 → fKc (19 + i) = true ∧ fK (19 + i) = 40 := by decide
  rw [(h.2.1 _ (e k hk).1).1]; exact (e k hk).2
theorem flF {M : gM} (h : gFix M) {k : Nat} (hk : k < 2) : gl M (19 + k) = 12 := by
  have e : ∀ i : Nat, i < 2 → fKc (19 + i) = true ∧ fL (19 + i) = 12 := by decide
  rw [(h.2.1 _ (e k hk).1).2]; exact (e k hk).2
theorem fkT {M : gM} (h : gFix M) {k : Nat} (hk : k < 2) : gk M (22 + k) = 40 := by
  have e : ∀ i : Nat, i < 2 → fKc (22 + i) = true ∧ fK (22 + i) = 40 := by decide
  rw [(h.2.1 _ (e k hk).1).1]; exact (e k hk).2
theorem flT {M : gM} (h : gFix M) {k : Nat} (hk : k < 2) : gl M (22 + k) = 12 := by
  have e : ∀ i : Nat, i < 2 → fKc (22 + i) = true ∧ fL (22 + i) = 12 := by decide
  rw [(h.2.1 _ (e k hk).1).2]; exact (e k hk).2
