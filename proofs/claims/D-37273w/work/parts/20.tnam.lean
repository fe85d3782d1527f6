set_option maxRecDepth 100000
def RX2 : String := "LineordersModel"
def TX2 : u_T := fun k => match k with
  | 0 => ("LineordersModel", "thrown", "I", false)
  | 1 => ("LineordersModel", "tape", "[I", true)
  | 2 => ("LineordersModel", "taped", "I", false)
  | 3 => ("LineordersModel", "scripts", "[I", true)
  | 4 => ("LineordersModel", "scriptSigns", "[I", true)
  | 5 => ("LineordersModel", "isKept", "[Z", true)
  | 6 => ("LineordersModel", "\x72", "[I", true)
  | 7 => ("LineordersModel", "ids", "[I", true)
  | 8 => ("LineordersModel", "newIds", "[I", true)
  | 9 => ("LineordersModel", "asideIds", "[I", true)
  | 10 => ("LineordersModel", "marks", "[I", true)
  | 11 => ("LineordersModel", "fileMany", "[I", true)
  | 12 => ("LineordersModel", "many", "I", false)
  | 13 => ("LineordersModel", "newMany", "I", false)
  | 14 => ("LineordersModel", "heldMany", "I", false)
  | 15 => ("LineordersModel", "outMany", "I", false)
  | 16 => ("LineordersModel", "present", "I", false)
  | 17 => ("LineordersModel", "nextId", "I", false)
  | 18 => ("LineordersModel", "reason", "I", false)
  | 19 => ("LineordersModel", "made", "[I", true)
  | 20 => ("LineordersModel", "madeMany", "I", false)
  | 21 => ("LineordersModel", "s", "[I", true)
  | 22 => ("LineordersModel", "n", "I", false)
  | 23 => ("LineordersModel", "p", "I", false)
  | 24 => ("LineordersModel", "bad", "I", false)
  | 25 => ("LineordersModel", "groups", "I", false)
  | 26 => ("LineordersModel", "stars", "I", false)
  | 27 => ("LineordersModel", "whereKind", "I", false)
  | 28 => ("LineordersModel", "firstAt", "I", false)
  | 29 => ("LineordersModel", "secondAt", "I", false)
  | 30 => ("LineordersModel", "actAt", "I", false)
  | 31 => ("LineordersModel", "kinds", "[I", true)
  | 32 => ("LineordersModel", "args", "[I", true)
  | 33 => ("LineordersModel", "elements", "I", false)
  | 34 => ("LineordersModel", "starMany", "I", false)
  | 35 => ("LineordersModel", "isAtBegin", "Z", false)
  | 36 => ("LineordersModel", "isAtEnd", "Z", false)
  | 37 => ("LineordersModel", "behindPattern", "I", false)
  | 38 => ("LineordersModel", "groupFrom", "[I", true)
  | 39 => ("LineordersModel", "groupTo", "[I", true)
  | 40 => ("LineordersModel", "findAt", "I", false)
  | 41 => ("LineordersModel", "findEnd", "I", false)
  | 42 => ("LineordersModel", "f", "I", false)
  | 43 => ("LineordersModel", "l", "I", false)
  | 44 => ("LineordersModel", "hasReplaced", "Z", false)
  | 45 => ("LineordersModel", "came", "I", false)
  | 46 => ("LineordersModel", "met", "[I", true)
  | 47 => ("LineordersModel", "savedIds", "[I", true)
  | 48 => ("LineordersModel", "savedMarks", "[I", true)
  | 49 => ("LineordersModel", "savedFiles", "[I", true)
  | 50 => ("LineordersModel", "savedMany", "I", false)
  | 51 => ("LineordersModel", "savedHeld", "I", false)
  | 52 => ("LineordersModel", "savedOut", "I", false)
  | 53 => ("LineordersModel", "savedPresent", "I", false)
  | 54 => ("LineordersModel", "savedNext", "I", false)
  | 55 => ("LineordersModel", "deedRows", "[I", true)
  | 56 => ("LineordersModel", "deedIds", "[I", true)
  | 57 => ("LineordersModel", "deedMarks", "[I", true)
  | 58 => ("LineordersModel", "deedMany", "[I", true)
  | 59 => ("LineordersModel", "deedPresent", "[I", true)
  | 60 => ("LineordersModel", "deedCall", "[I", true)
  | 61 => ("LineordersModel", "firstDeed", "I", false)
  | 62 => ("LineordersModel", "deeds", "I", false)
  | 63 => ("LineordersModel", "calls", "I", false)
  | 64 => ("LineordersModel", "goesTo", "I", false)
  | 65 => ("LineordersModel", "lines", "I", false)
  | 66 => ("LineordersModel", "taken", "I", false)
  | 67 => ("LineordersModel", "workId", "I", false)
  | 68 => ("LineordersModel", "workNumbe\x72", "I", false)
  | 69 => ("LineordersModel", "workTurn", "I", false)
  | 70 => ("LineordersModel", "isThere", "Z", false)
  | 71 => ("LineordersModel", "isOve\x72", "Z", false)
  | 72 => ("LineordersModel", "dueMany", "I", false)
  | 73 => ("LineordersModel", "counted", "I", false)
  | 74 => ("LineordersModel", "isRunning", "[Z", true)
  | 75 => ("LineordersModel", "lookedTurn", "[I", true)
  | 76 => ("LineordersModel", "hasHeld", "[Z", true)
  | 77 => ("LineordersModel", "seed", "I", false)
  | 78 => ("LineordersModel", "common", "[I", true)
  | _ => ("LineordersModel", "pairs", "[I", true)
def tyX2 : Nat → FieldType := fun k => match k with
  | 0 => .int
  | 1 => .array .int
  | 2 => .int
  | 3 => .array .int
  | 4 => .array .int
  | 5 => .array .boolean
  | 6 => .array .int
  | 7 => .array .int
  | 8 => .array .int
  | 9 => .array .int
  | 10 => .array .int
  | 11 => .array .int
  | 12 => .int
  | 13 => .int
  | 14 => .int
  | 15 => .int
  | 16 => .int
  | 17 => .int
  | 18 => .int
  | 19 => .array .int
  | 20 => .int
  | 21 => .array .int
  | 22 => .int
  | 23 => .int
  | 24 => .int
  | 25 => .int
  | 26 => .int
  | 27 => .int
  | 28 => .int
  | 29 => .int
  | 30 => .int
  | 31 => .array .int
  | 32 => .array .int
  | 33 => .int
  | 34 => .int
  | 35 => .boolean
  | 36 => .boolean
  | 37 => .int
  | 38 => .array .int
  | 39 => .array .int
  | 40 => .int
  | 41 => .int
  | 42 => .int
  | 43 => .int
  | 44 => .boolean
  | 45 => .int
  | 46 => .array .int
  | 47 => .array .int
  | 48 => .array .int
  | 49 => .array .int
  | 50 => .int
  | 51 => .int
  | 52 => .int
  | 53 => .int
  | 54 => .int
  | 55 => .array .int
  | 56 => .array .int
  | 57 => .array .int
  | 58 => .array .int
  | 59 => .array .int
  | 60 => .array .int
  | 61 => .int
  | 62 => .int
  | 63 => .int
  | 64 => .int
  | 65 => .int
  | 66 => .int
  | 67 => .int
  | 68 => .int
  | 69 => .int
  | 70 => .boolean
  | 71 => .boolean
  | 72 => .int
  | 73 => .int
  | 74 => .array .boolean
  | 75 => .array .int
  | 76 => .array .boolean
  | 77 => .int
  | 78 => .array .int
  | _ => .array .int
abbrev wsX20 : List Cond := u_ws RX2 TX2 80
set_option maxRecDepth 100000 in
theorem nmX2 : ∀ a, a < 80 → ∀ b, b < 80 → a ≠ b → (TX2 a).2.1 ≠ (TX2 b).2.1 := by decide +kernel
set_option maxRecDepth 100000 in
theorem tyX2_ok : ∀ k, k < 80 → parseFieldDescriptor (TX2 k).2.2.1 = some (tyX2 k) := by decide +kernel
theorem q275 : (Jvm.Cond.initialized "LineordersModel") ∈ lw_all := lw_g (lw_at lw_m1 19 rfl) rfl
theorem q3356 : (Jvm.Cond.instantiable "LineordersModel" (80 : Nat)) ∈ lw_all := lw_g (lw_at lw_m13 220 rfl) rfl
theorem q3361 : (Jvm.Cond.constant "LineordersModel" (71 : Nat) (49600 : Int32)) ∈ lw_all := lw_g (lw_at lw_m13 225 rfl) rfl
theorem q3362 : (Jvm.Cond.fieldLink "LineordersModel" (105 : Nat) "LineordersModel" "thrown" "I") ∈ lw_all := lw_g (lw_at lw_m13 226 rfl) rfl
theorem q3363 : (Jvm.Cond.fieldLink "LineordersModel" (7 : Nat) "LineordersModel" "tape" "[I") ∈ lw_all := lw_g (lw_at lw_m13 227 rfl) rfl
theorem q3364 : (Jvm.Cond.fieldLink "LineordersModel" (143 : Nat) "LineordersModel" "taped" "I") ∈ lw_all := lw_g (lw_at lw_m13 228 rfl) rfl
theorem q3365 : (Jvm.Cond.fieldLink "LineordersModel" (13 : Nat) "LineordersModel" "scripts" "[I") ∈ lw_all := lw_g (lw_at lw_m13 229 rfl) rfl
theorem q3366 : (Jvm.Cond.fieldLink "LineordersModel" (16 : Nat) "LineordersModel" "scriptSigns" "[I") ∈ lw_all := lw_g (lw_at lw_m13 230 rfl) rfl
theorem q3367 : (Jvm.Cond.fieldLink "LineordersModel" (19 : Nat) "LineordersModel" "isKept" "[Z") ∈ lw_all := lw_g (lw_at lw_m13 231 rfl) rfl
theorem q3368 : (Jvm.Cond.fieldLink "LineordersModel" (23 : Nat) "LineordersModel" "\x72" "[I") ∈ lw_all := lw_g (lw_at lw_m13 232 rfl) rfl
theorem q3369 : (Jvm.Cond.fieldLink "LineordersModel" (26 : Nat) "LineordersModel" "ids" "[I") ∈ lw_all := lw_g (lw_at lw_m13 233 rfl) rfl
theorem q3370 : (Jvm.Cond.fieldLink "LineordersModel" (29 : Nat) "LineordersModel" "newIds" "[I") ∈ lw_all := lw_g (lw_at lw_m13 234 rfl) rfl
theorem q3371 : (Jvm.Cond.fieldLink "LineordersModel" (32 : Nat) "LineordersModel" "asideIds" "[I") ∈ lw_all := lw_g (lw_at lw_m13 235 rfl) rfl
theorem q3372 : (Jvm.Cond.fieldLink "LineordersModel" (35 : Nat) "LineordersModel" "marks" "[I") ∈ lw_all := lw_g (lw_at lw_m13 236 rfl) rfl
theorem q3373 : (Jvm.Cond.fieldLink "LineordersModel" (38 : Nat) "LineordersModel" "fileMany" "[I") ∈ lw_all := lw_g (lw_at lw_m13 237 rfl) rfl
theorem q3374 : (Jvm.Cond.fieldLink "LineordersModel" (124 : Nat) "LineordersModel" "many" "I") ∈ lw_all := lw_g (lw_at lw_m13 238 rfl) rfl
theorem q3375 : (Jvm.Cond.fieldLink "LineordersModel" (536 : Nat) "LineordersModel" "newMany" "I") ∈ lw_all := lw_g (lw_at lw_m13 239 rfl) rfl
theorem q3376 : (Jvm.Cond.fieldLink "LineordersModel" (366 : Nat) "LineordersModel" "heldMany" "I") ∈ lw_all := lw_g (lw_at lw_m14 0 rfl) rfl
theorem q3377 : (Jvm.Cond.fieldLink "LineordersModel" (357 : Nat) "LineordersModel" "outMany" "I") ∈ lw_all := lw_g (lw_at lw_m14 1 rfl) rfl
theorem q3378 : (Jvm.Cond.fieldLink "LineordersModel" (295 : Nat) "LineordersModel" "present" "I") ∈ lw_all := lw_g (lw_at lw_m14 2 rfl) rfl
theorem q3379 : (Jvm.Cond.fieldLink "LineordersModel" (134 : Nat) "LineordersModel" "nextId" "I") ∈ lw_all := lw_g (lw_at lw_m14 3 rfl) rfl
theorem q3380 : (Jvm.Cond.fieldLink "LineordersModel" (518 : Nat) "LineordersModel" "reason" "I") ∈ lw_all := lw_g (lw_at lw_m14 4 rfl) rfl
theorem q3381 : (Jvm.Cond.fieldLink "LineordersModel" (41 : Nat) "LineordersModel" "made" "[I") ∈ lw_all := lw_g (lw_at lw_m14 5 rfl) rfl
theorem q3382 : (Jvm.Cond.fieldLink "LineordersModel" (117 : Nat) "LineordersModel" "madeMany" "I") ∈ lw_all := lw_g (lw_at lw_m14 6 rfl) rfl
theorem q3383 : (Jvm.Cond.fieldLink "LineordersModel" (44 : Nat) "LineordersModel" "s" "[I") ∈ lw_all := lw_g (lw_at lw_m14 7 rfl) rfl
theorem q3384 : (Jvm.Cond.fieldLink "LineordersModel" (146 : Nat) "LineordersModel" "n" "I") ∈ lw_all := lw_g (lw_at lw_m14 8 rfl) rfl
theorem q3385 : (Jvm.Cond.fieldLink "LineordersModel" (149 : Nat) "LineordersModel" "p" "I") ∈ lw_all := lw_g (lw_at lw_m14 9 rfl) rfl
theorem q3386 : (Jvm.Cond.fieldLink "LineordersModel" (156 : Nat) "LineordersModel" "bad" "I") ∈ lw_all := lw_g (lw_at lw_m14 10 rfl) rfl
theorem q3387 : (Jvm.Cond.fieldLink "LineordersModel" (179 : Nat) "LineordersModel" "groups" "I") ∈ lw_all := lw_g (lw_at lw_m14 11 rfl) rfl
theorem q3388 : (Jvm.Cond.fieldLink "LineordersModel" (170 : Nat) "LineordersModel" "stars" "I") ∈ lw_all := lw_g (lw_at lw_m14 12 rfl) rfl
theorem q3389 : (Jvm.Cond.fieldLink "LineordersModel" (203 : Nat) "LineordersModel" "whereKind" "I") ∈ lw_all := lw_g (lw_at lw_m14 13 rfl) rfl
theorem q3390 : (Jvm.Cond.fieldLink "LineordersModel" (209 : Nat) "LineordersModel" "firstAt" "I") ∈ lw_all := lw_g (lw_at lw_m14 14 rfl) rfl
theorem q3391 : (Jvm.Cond.fieldLink "LineordersModel" (215 : Nat) "LineordersModel" "secondAt" "I") ∈ lw_all := lw_g (lw_at lw_m14 15 rfl) rfl
theorem q3392 : (Jvm.Cond.fieldLink "LineordersModel" (218 : Nat) "LineordersModel" "actAt" "I") ∈ lw_all := lw_g (lw_at lw_m14 16 rfl) rfl
theorem q3393 : (Jvm.Cond.fieldLink "LineordersModel" (47 : Nat) "LineordersModel" "kinds" "[I") ∈ lw_all := lw_g (lw_at lw_m14 17 rfl) rfl
theorem q3394 : (Jvm.Cond.fieldLink "LineordersModel" (50 : Nat) "LineordersModel" "args" "[I") ∈ lw_all := lw_g (lw_at lw_m14 18 rfl) rfl
theorem q3395 : (Jvm.Cond.fieldLink "LineordersModel" (252 : Nat) "LineordersModel" "elements" "I") ∈ lw_all := lw_g (lw_at lw_m14 19 rfl) rfl
theorem q3396 : (Jvm.Cond.fieldLink "LineordersModel" (255 : Nat) "LineordersModel" "starMany" "I") ∈ lw_all := lw_g (lw_at lw_m14 20 rfl) rfl
theorem q3397 : (Jvm.Cond.fieldLink "LineordersModel" (258 : Nat) "LineordersModel" "isAtBegin" "Z") ∈ lw_all := lw_g (lw_at lw_m14 21 rfl) rfl
theorem q3398 : (Jvm.Cond.fieldLink "LineordersModel" (262 : Nat) "LineordersModel" "isAtEnd" "Z") ∈ lw_all := lw_g (lw_at lw_m14 22 rfl) rfl
theorem q3399 : (Jvm.Cond.fieldLink "LineordersModel" (268 : Nat) "LineordersModel" "behindPattern" "I") ∈ lw_all := lw_g (lw_at lw_m14 23 rfl) rfl
theorem q3400 : (Jvm.Cond.fieldLink "LineordersModel" (53 : Nat) "LineordersModel" "groupFrom" "[I") ∈ lw_all := lw_g (lw_at lw_m14 24 rfl) rfl
theorem q3401 : (Jvm.Cond.fieldLink "LineordersModel" (56 : Nat) "LineordersModel" "groupTo" "[I") ∈ lw_all := lw_g (lw_at lw_m14 25 rfl) rfl
theorem q3402 : (Jvm.Cond.fieldLink "LineordersModel" (289 : Nat) "LineordersModel" "findAt" "I") ∈ lw_all := lw_g (lw_at lw_m14 26 rfl) rfl
theorem q3403 : (Jvm.Cond.fieldLink "LineordersModel" (279 : Nat) "LineordersModel" "findEnd" "I") ∈ lw_all := lw_g (lw_at lw_m14 27 rfl) rfl
theorem q3404 : (Jvm.Cond.fieldLink "LineordersModel" (317 : Nat) "LineordersModel" "f" "I") ∈ lw_all := lw_g (lw_at lw_m14 28 rfl) rfl
theorem q3405 : (Jvm.Cond.fieldLink "LineordersModel" (320 : Nat) "LineordersModel" "l" "I") ∈ lw_all := lw_g (lw_at lw_m14 29 rfl) rfl
theorem q3406 : (Jvm.Cond.fieldLink "LineordersModel" (385 : Nat) "LineordersModel" "hasReplaced" "Z") ∈ lw_all := lw_g (lw_at lw_m14 30 rfl) rfl
theorem q3407 : (Jvm.Cond.fieldLink "LineordersModel" (455 : Nat) "LineordersModel" "came" "I") ∈ lw_all := lw_g (lw_at lw_m14 31 rfl) rfl
theorem q3408 : (Jvm.Cond.fieldLink "LineordersModel" (59 : Nat) "LineordersModel" "met" "[I") ∈ lw_all := lw_g (lw_at lw_m14 32 rfl) rfl
theorem q3409 : (Jvm.Cond.fieldLink "LineordersModel" (62 : Nat) "LineordersModel" "savedIds" "[I") ∈ lw_all := lw_g (lw_at lw_m14 33 rfl) rfl
theorem q3410 : (Jvm.Cond.fieldLink "LineordersModel" (65 : Nat) "LineordersModel" "savedMarks" "[I") ∈ lw_all := lw_g (lw_at lw_m14 34 rfl) rfl
theorem q3411 : (Jvm.Cond.fieldLink "LineordersModel" (68 : Nat) "LineordersModel" "savedFiles" "[I") ∈ lw_all := lw_g (lw_at lw_m14 35 rfl) rfl
theorem q3412 : (Jvm.Cond.fieldLink "LineordersModel" (476 : Nat) "LineordersModel" "savedMany" "I") ∈ lw_all := lw_g (lw_at lw_m14 36 rfl) rfl
theorem q3413 : (Jvm.Cond.fieldLink "LineordersModel" (479 : Nat) "LineordersModel" "savedHeld" "I") ∈ lw_all := lw_g (lw_at lw_m14 37 rfl) rfl
theorem q3414 : (Jvm.Cond.fieldLink "LineordersModel" (482 : Nat) "LineordersModel" "savedOut" "I") ∈ lw_all := lw_g (lw_at lw_m14 38 rfl) rfl
theorem q3415 : (Jvm.Cond.fieldLink "LineordersModel" (485 : Nat) "LineordersModel" "savedPresent" "I") ∈ lw_all := lw_g (lw_at lw_m14 39 rfl) rfl
theorem q3416 : (Jvm.Cond.fieldLink "LineordersModel" (488 : Nat) "LineordersModel" "savedNext" "I") ∈ lw_all := lw_g (lw_at lw_m14 40 rfl) rfl
theorem q3417 : (Jvm.Cond.fieldLink "LineordersModel" (72 : Nat) "LineordersModel" "deedRows" "[I") ∈ lw_all := lw_g (lw_at lw_m14 41 rfl) rfl
theorem q3418 : (Jvm.Cond.fieldLink "LineordersModel" (75 : Nat) "LineordersModel" "deedIds" "[I") ∈ lw_all := lw_g (lw_at lw_m14 42 rfl) rfl
theorem q3419 : (Jvm.Cond.fieldLink "LineordersModel" (78 : Nat) "LineordersModel" "deedMarks" "[I") ∈ lw_all := lw_g (lw_at lw_m14 43 rfl) rfl
theorem q3420 : (Jvm.Cond.fieldLink "LineordersModel" (81 : Nat) "LineordersModel" "deedMany" "[I") ∈ lw_all := lw_g (lw_at lw_m14 44 rfl) rfl
theorem q3421 : (Jvm.Cond.fieldLink "LineordersModel" (84 : Nat) "LineordersModel" "deedPresent" "[I") ∈ lw_all := lw_g (lw_at lw_m14 45 rfl) rfl
theorem q3422 : (Jvm.Cond.fieldLink "LineordersModel" (87 : Nat) "LineordersModel" "deedCall" "[I") ∈ lw_all := lw_g (lw_at lw_m14 46 rfl) rfl
theorem q3423 : (Jvm.Cond.fieldLink "LineordersModel" (491 : Nat) "LineordersModel" "firstDeed" "I") ∈ lw_all := lw_g (lw_at lw_m14 47 rfl) rfl
theorem q3424 : (Jvm.Cond.fieldLink "LineordersModel" (494 : Nat) "LineordersModel" "deeds" "I") ∈ lw_all := lw_g (lw_at lw_m14 48 rfl) rfl
theorem q3425 : (Jvm.Cond.fieldLink "LineordersModel" (497 : Nat) "LineordersModel" "calls" "I") ∈ lw_all := lw_g (lw_at lw_m14 49 rfl) rfl
theorem q3426 : (Jvm.Cond.fieldLink "LineordersModel" (506 : Nat) "LineordersModel" "goesTo" "I") ∈ lw_all := lw_g (lw_at lw_m14 50 rfl) rfl
theorem q3427 : (Jvm.Cond.fieldLink "LineordersModel" (563 : Nat) "LineordersModel" "lines" "I") ∈ lw_all := lw_g (lw_at lw_m14 51 rfl) rfl
theorem q3428 : (Jvm.Cond.fieldLink "LineordersModel" (545 : Nat) "LineordersModel" "taken" "I") ∈ lw_all := lw_g (lw_at lw_m14 52 rfl) rfl
theorem q3429 : (Jvm.Cond.fieldLink "LineordersModel" (548 : Nat) "LineordersModel" "workId" "I") ∈ lw_all := lw_g (lw_at lw_m14 53 rfl) rfl
theorem q3430 : (Jvm.Cond.fieldLink "LineordersModel" (551 : Nat) "LineordersModel" "workNumbe\x72" "I") ∈ lw_all := lw_g (lw_at lw_m14 54 rfl) rfl
theorem q3431 : (Jvm.Cond.fieldLink "LineordersModel" (554 : Nat) "LineordersModel" "workTurn" "I") ∈ lw_all := lw_g (lw_at lw_m14 55 rfl) rfl
theorem q3432 : (Jvm.Cond.fieldLink "LineordersModel" (557 : Nat) "LineordersModel" "isThere" "Z") ∈ lw_all := lw_g (lw_at lw_m14 56 rfl) rfl
theorem q3433 : (Jvm.Cond.fieldLink "LineordersModel" (643 : Nat) "LineordersModel" "isOve\x72" "Z") ∈ lw_all := lw_g (lw_at lw_m14 57 rfl) rfl
theorem q3434 : (Jvm.Cond.fieldLink "LineordersModel" (542 : Nat) "LineordersModel" "dueMany" "I") ∈ lw_all := lw_g (lw_at lw_m14 58 rfl) rfl
theorem q3435 : (Jvm.Cond.fieldLink "LineordersModel" (618 : Nat) "LineordersModel" "counted" "I") ∈ lw_all := lw_g (lw_at lw_m14 59 rfl) rfl
theorem q3436 : (Jvm.Cond.fieldLink "LineordersModel" (90 : Nat) "LineordersModel" "isRunning" "[Z") ∈ lw_all := lw_g (lw_at lw_m14 60 rfl) rfl
theorem q3437 : (Jvm.Cond.fieldLink "LineordersModel" (93 : Nat) "LineordersModel" "lookedTurn" "[I") ∈ lw_all := lw_g (lw_at lw_m14 61 rfl) rfl
theorem q3438 : (Jvm.Cond.fieldLink "LineordersModel" (96 : Nat) "LineordersModel" "hasHeld" "[Z") ∈ lw_all := lw_g (lw_at lw_m14 62 rfl) rfl
theorem q3439 : (Jvm.Cond.fieldLink "LineordersModel" (710 : Nat) "LineordersModel" "seed" "I") ∈ lw_all := lw_g (lw_at lw_m14 63 rfl) rfl
theorem q3440 : (Jvm.Cond.fieldLink "LineordersModel" (99 : Nat) "LineordersModel" "common" "[I") ∈ lw_all := lw_g (lw_at lw_m14 64 rfl) rfl
theorem q3441 : (Jvm.Cond.fieldLink "LineordersModel" (102 : Nat) "LineordersModel" "pairs" "[I") ∈ lw_all := lw_g (lw_at lw_m14 65 rfl) rfl
theorem q3605 : (Jvm.Cond.instanceMethod ({ cls := "LineordersModel", name := "thrown", desc := "()I" } : Jvm.MethodName)) ∈ lw_all := lw_g (lw_at lw_m14 229 rfl) rfl
theorem q3606 : (Jvm.Cond.selects "LineordersModel" ({ cls := "LineordersModel", name := "thrown", desc := "()I" } : Jvm.MethodName) ({ cls := "LineordersModel", name := "thrown", desc := "()I" } : Jvm.MethodName)) ∈ lw_all := lw_g (lw_at lw_m14 230 rfl) rfl
theorem q3607 : (Jvm.Cond.code ({ cls := "LineordersModel", name := "thrown", desc := "()I" } : Jvm.MethodName) prog_14_method_2_code (1 : Nat) (Option.some Jvm.ClassFile.FieldType.int)) ∈ lw_all := lw_g (lw_at lw_m14 231 rfl) rfl
theorem q3609 : (Jvm.Cond.instanceMethod ({ cls := "LineordersModel", name := "type", desc := "(I)I" } : Jvm.MethodName)) ∈ lw_all := lw_g (lw_at lw_m14 233 rfl) rfl
theorem q3610 : (Jvm.Cond.selects "LineordersModel" ({ cls := "LineordersModel", name := "type", desc := "(I)I" } : Jvm.MethodName) ({ cls := "LineordersModel", name := "type", desc := "(I)I" } : Jvm.MethodName)) ∈ lw_all := lw_g (lw_at lw_m14 234 rfl) rfl
theorem q3611 : (Jvm.Cond.code ({ cls := "LineordersModel", name := "type", desc := "(I)I" } : Jvm.MethodName) prog_14_method_147_code (2 : Nat) (Option.some Jvm.ClassFile.FieldType.int)) ∈ lw_all := lw_g (lw_at lw_m14 235 rfl) rfl
theorem q3613 : (Jvm.Cond.instanceMethod ({ cls := "LineordersModel", name := "wipe", desc := "()I" } : Jvm.MethodName)) ∈ lw_all := lw_g (lw_at lw_m14 237 rfl) rfl
theorem q3614 : (Jvm.Cond.selects "LineordersModel" ({ cls := "LineordersModel", name := "wipe", desc := "()I" } : Jvm.MethodName) ({ cls := "LineordersModel", name := "wipe", desc := "()I" } : Jvm.MethodName)) ∈ lw_all := lw_g (lw_at lw_m14 238 rfl) rfl
theorem q3615 : (Jvm.Cond.code ({ cls := "LineordersModel", name := "wipe", desc := "()I" } : Jvm.MethodName) prog_14_method_148_code (2 : Nat) (Option.some Jvm.ClassFile.FieldType.int)) ∈ lw_all := lw_g (lw_at lw_m14 239 rfl) rfl
theorem q3617 : (Jvm.Cond.instanceMethod ({ cls := "LineordersModel", name := "fault", desc := "()I" } : Jvm.MethodName)) ∈ lw_all := lw_g (lw_at lw_m15 1 rfl) rfl
theorem q3618 : (Jvm.Cond.selects "LineordersModel" ({ cls := "LineordersModel", name := "fault", desc := "()I" } : Jvm.MethodName) ({ cls := "LineordersModel", name := "fault", desc := "()I" } : Jvm.MethodName)) ∈ lw_all := lw_g (lw_at lw_m15 2 rfl) rfl
theorem q3619 : (Jvm.Cond.code ({ cls := "LineordersModel", name := "fault", desc := "()I" } : Jvm.MethodName) prog_14_method_149_code (1 : Nat) (Option.some Jvm.ClassFile.FieldType.int)) ∈ lw_all := lw_g (lw_at lw_m15 3 rfl) rfl
theorem q3620 : (Jvm.Cond.methodLink "LineordersModel" (679 : Nat) ({ cls := "LineordersModel", name := "loadTape", desc := "()V" } : Jvm.MethodName)) ∈ lw_all := lw_g (lw_at lw_m15 4 rfl) rfl
theorem q3622 : (Jvm.Cond.instanceMethod ({ cls := "LineordersModel", name := "loadTape", desc := "()V" } : Jvm.MethodName)) ∈ lw_all := lw_g (lw_at lw_m15 6 rfl) rfl
theorem q3623 : (Jvm.Cond.code ({ cls := "LineordersModel", name := "loadTape", desc := "()V" } : Jvm.MethodName) prog_14_method_19_code (2 : Nat) (Option.none : Option Jvm.ClassFile.FieldType)) ∈ lw_all := lw_g (lw_at lw_m15 7 rfl) rfl
theorem q3624 : (Jvm.Cond.methodLink "LineordersModel" (682 : Nat) ({ cls := "LineordersModel", name := "ordersFault", desc := "()I" } : Jvm.MethodName)) ∈ lw_all := lw_g (lw_at lw_m15 8 rfl) rfl
theorem q3626 : (Jvm.Cond.instanceMethod ({ cls := "LineordersModel", name := "ordersFault", desc := "()I" } : Jvm.MethodName)) ∈ lw_all := lw_g (lw_at lw_m15 10 rfl) rfl
theorem q3627 : (Jvm.Cond.code ({ cls := "LineordersModel", name := "ordersFault", desc := "()I" } : Jvm.MethodName) prog_14_method_46_code (1 : Nat) (Option.some Jvm.ClassFile.FieldType.int)) ∈ lw_all := lw_g (lw_at lw_m15 11 rfl) rfl
theorem q3628 : (Jvm.Cond.methodLink "LineordersModel" (249 : Nat) ({ cls := "LineordersModel", name := "orde\x72", desc := "()V" } : Jvm.MethodName)) ∈ lw_all := lw_g (lw_at lw_m15 12 rfl) rfl
theorem q3630 : (Jvm.Cond.instanceMethod ({ cls := "LineordersModel", name := "orde\x72", desc := "()V" } : Jvm.MethodName)) ∈ lw_all := lw_g (lw_at lw_m15 14 rfl) rfl
theorem q3631 : (Jvm.Cond.code ({ cls := "LineordersModel", name := "orde\x72", desc := "()V" } : Jvm.MethodName) prog_14_method_45_code (3 : Nat) (Option.none : Option Jvm.ClassFile.FieldType)) ∈ lw_all := lw_g (lw_at lw_m15 15 rfl) rfl
theorem q3632 : (Jvm.Cond.methodLink "LineordersModel" (236 : Nat) ({ cls := "LineordersModel", name := "where", desc := "()V" } : Jvm.MethodName)) ∈ lw_all := lw_g (lw_at lw_m15 16 rfl) rfl
theorem q3634 : (Jvm.Cond.instanceMethod ({ cls := "LineordersModel", name := "where", desc := "()V" } : Jvm.MethodName)) ∈ lw_all := lw_g (lw_at lw_m15 18 rfl) rfl
theorem q3635 : (Jvm.Cond.code ({ cls := "LineordersModel", name := "where", desc := "()V" } : Jvm.MethodName) prog_14_method_37_code (1 : Nat) (Option.none : Option Jvm.ClassFile.FieldType)) ∈ lw_all := lw_g (lw_at lw_m15 19 rfl) rfl
theorem q3636 : (Jvm.Cond.methodLink "LineordersModel" (162 : Nat) ({ cls := "LineordersModel", name := "c", desc := "()I" } : Jvm.MethodName)) ∈ lw_all := lw_g (lw_at lw_m15 20 rfl) rfl
theorem q3638 : (Jvm.Cond.instanceMethod ({ cls := "LineordersModel", name := "c", desc := "()I" } : Jvm.MethodName)) ∈ lw_all := lw_g (lw_at lw_m15 22 rfl) rfl
theorem q3639 : (Jvm.Cond.code ({ cls := "LineordersModel", name := "c", desc := "()I" } : Jvm.MethodName) prog_14_method_21_code (1 : Nat) (Option.some Jvm.ClassFile.FieldType.int)) ∈ lw_all := lw_g (lw_at lw_m15 23 rfl) rfl
theorem q3640 : (Jvm.Cond.methodLink "LineordersModel" (206 : Nat) ({ cls := "LineordersModel", name := "beginsSpot", desc := "(I)Z" } : Jvm.MethodName)) ∈ lw_all := lw_g (lw_at lw_m15 24 rfl) rfl
theorem q3641 : (Jvm.Cond.static ({ cls := "LineordersModel", name := "beginsSpot", desc := "(I)Z" } : Jvm.MethodName)) ∈ lw_all := lw_g (lw_at lw_m15 25 rfl) rfl
theorem q3642 : (Jvm.Cond.code ({ cls := "LineordersModel", name := "beginsSpot", desc := "(I)Z" } : Jvm.MethodName) prog_14_method_34_code (1 : Nat) (Option.some Jvm.ClassFile.FieldType.boolean)) ∈ lw_all := lw_g (lw_at lw_m15 26 rfl) rfl
theorem q3643 : (Jvm.Cond.methodLink "LineordersModel" (152 : Nat) ({ cls := "LineordersModel", name := "isDigit", desc := "(I)Z" } : Jvm.MethodName)) ∈ lw_all := lw_g (lw_at lw_m15 27 rfl) rfl
theorem q3644 : (Jvm.Cond.static ({ cls := "LineordersModel", name := "isDigit", desc := "(I)Z" } : Jvm.MethodName)) ∈ lw_all := lw_g (lw_at lw_m15 28 rfl) rfl
theorem q3645 : (Jvm.Cond.code ({ cls := "LineordersModel", name := "isDigit", desc := "(I)Z" } : Jvm.MethodName) prog_14_method_23_code (1 : Nat) (Option.some Jvm.ClassFile.FieldType.boolean)) ∈ lw_all := lw_g (lw_at lw_m15 29 rfl) rfl
theorem q3646 : (Jvm.Cond.methodLink "LineordersModel" (212 : Nat) ({ cls := "LineordersModel", name := "address", desc := "()V" } : Jvm.MethodName)) ∈ lw_all := lw_g (lw_at lw_m15 30 rfl) rfl
theorem q3648 : (Jvm.Cond.instanceMethod ({ cls := "LineordersModel", name := "address", desc := "()V" } : Jvm.MethodName)) ∈ lw_all := lw_g (lw_at lw_m15 32 rfl) rfl
theorem q3649 : (Jvm.Cond.code ({ cls := "LineordersModel", name := "address", desc := "()V" } : Jvm.MethodName) prog_14_method_36_code (1 : Nat) (Option.none : Option Jvm.ClassFile.FieldType)) ∈ lw_all := lw_g (lw_at lw_m15 33 rfl) rfl
theorem q3650 : (Jvm.Cond.methodLink "LineordersModel" (200 : Nat) ({ cls := "LineordersModel", name := "spot", desc := "()V" } : Jvm.MethodName)) ∈ lw_all := lw_g (lw_at lw_m15 34 rfl) rfl
theorem q3652 : (Jvm.Cond.instanceMethod ({ cls := "LineordersModel", name := "spot", desc := "()V" } : Jvm.MethodName)) ∈ lw_all := lw_g (lw_at lw_m15 36 rfl) rfl
theorem q3653 : (Jvm.Cond.code ({ cls := "LineordersModel", name := "spot", desc := "()V" } : Jvm.MethodName) prog_14_method_35_code (2 : Nat) (Option.none : Option Jvm.ClassFile.FieldType)) ∈ lw_all := lw_g (lw_at lw_m15 37 rfl) rfl
theorem q3654 : (Jvm.Cond.methodLink "LineordersModel" (191 : Nat) ({ cls := "LineordersModel", name := "numbe\x72", desc := "()V" } : Jvm.MethodName)) ∈ lw_all := lw_g (lw_at lw_m15 38 rfl) rfl
theorem q3656 : (Jvm.Cond.instanceMethod ({ cls := "LineordersModel", name := "numbe\x72", desc := "()V" } : Jvm.MethodName)) ∈ lw_all := lw_g (lw_at lw_m15 40 rfl) rfl
theorem q3657 : (Jvm.Cond.code ({ cls := "LineordersModel", name := "numbe\x72", desc := "()V" } : Jvm.MethodName) prog_14_method_29_code (1 : Nat) (Option.none : Option Jvm.ClassFile.FieldType)) ∈ lw_all := lw_g (lw_at lw_m15 41 rfl) rfl
theorem q3658 : (Jvm.Cond.methodLink "LineordersModel" (166 : Nat) ({ cls := "LineordersModel", name := "takeIf", desc := "(Z)V" } : Jvm.MethodName)) ∈ lw_all := lw_g (lw_at lw_m15 42 rfl) rfl
theorem q3660 : (Jvm.Cond.instanceMethod ({ cls := "LineordersModel", name := "takeIf", desc := "(Z)V" } : Jvm.MethodName)) ∈ lw_all := lw_g (lw_at lw_m15 44 rfl) rfl
theorem q3661 : (Jvm.Cond.code ({ cls := "LineordersModel", name := "takeIf", desc := "(Z)V" } : Jvm.MethodName) prog_14_method_27_code (2 : Nat) (Option.none : Option Jvm.ClassFile.FieldType)) ∈ lw_all := lw_g (lw_at lw_m15 45 rfl) rfl
theorem q3662 : (Jvm.Cond.methodLink "LineordersModel" (159 : Nat) ({ cls := "LineordersModel", name := "fail", desc := "()V" } : Jvm.MethodName)) ∈ lw_all := lw_g (lw_at lw_m15 46 rfl) rfl
theorem q3664 : (Jvm.Cond.instanceMethod ({ cls := "LineordersModel", name := "fail", desc := "()V" } : Jvm.MethodName)) ∈ lw_all := lw_g (lw_at lw_m15 48 rfl) rfl
theorem q3665 : (Jvm.Cond.code ({ cls := "LineordersModel", name := "fail", desc := "()V" } : Jvm.MethodName) prog_14_method_26_code (1 : Nat) (Option.none : Option Jvm.ClassFile.FieldType)) ∈ lw_all := lw_g (lw_at lw_m15 49 rfl) rfl
theorem q3666 : (Jvm.Cond.methodLink "LineordersModel" (194 : Nat) ({ cls := "LineordersModel", name := "isMark", desc := "(I)Z" } : Jvm.MethodName)) ∈ lw_all := lw_g (lw_at lw_m15 50 rfl) rfl
theorem q3667 : (Jvm.Cond.static ({ cls := "LineordersModel", name := "isMark", desc := "(I)Z" } : Jvm.MethodName)) ∈ lw_all := lw_g (lw_at lw_m15 51 rfl) rfl
theorem q3668 : (Jvm.Cond.code ({ cls := "LineordersModel", name := "isMark", desc := "(I)Z" } : Jvm.MethodName) prog_14_method_24_code (1 : Nat) (Option.some Jvm.ClassFile.FieldType.boolean)) ∈ lw_all := lw_g (lw_at lw_m15 52 rfl) rfl
theorem q3669 : (Jvm.Cond.methodLink "LineordersModel" (197 : Nat) ({ cls := "LineordersModel", name := "pattern", desc := "(I)V" } : Jvm.MethodName)) ∈ lw_all := lw_g (lw_at lw_m15 53 rfl) rfl
theorem q3671 : (Jvm.Cond.instanceMethod ({ cls := "LineordersModel", name := "pattern", desc := "(I)V" } : Jvm.MethodName)) ∈ lw_all := lw_g (lw_at lw_m15 55 rfl) rfl
theorem q3672 : (Jvm.Cond.code ({ cls := "LineordersModel", name := "pattern", desc := "(I)V" } : Jvm.MethodName) prog_14_method_33_code (5 : Nat) (Option.none : Option Jvm.ClassFile.FieldType)) ∈ lw_all := lw_g (lw_at lw_m15 56 rfl) rfl
theorem q3673 : (Jvm.Cond.methodLink "LineordersModel" (188 : Nat) ({ cls := "LineordersModel", name := "item", desc := "()V" } : Jvm.MethodName)) ∈ lw_all := lw_g (lw_at lw_m15 57 rfl) rfl
theorem q3675 : (Jvm.Cond.instanceMethod ({ cls := "LineordersModel", name := "item", desc := "()V" } : Jvm.MethodName)) ∈ lw_all := lw_g (lw_at lw_m15 59 rfl) rfl
theorem q3676 : (Jvm.Cond.code ({ cls := "LineordersModel", name := "item", desc := "()V" } : Jvm.MethodName) prog_14_method_32_code (1 : Nat) (Option.none : Option Jvm.ClassFile.FieldType)) ∈ lw_all := lw_g (lw_at lw_m15 60 rfl) rfl
theorem q3677 : (Jvm.Cond.methodLink "LineordersModel" (185 : Nat) ({ cls := "LineordersModel", name := "group", desc := "()V" } : Jvm.MethodName)) ∈ lw_all := lw_g (lw_at lw_m15 61 rfl) rfl
theorem q3679 : (Jvm.Cond.instanceMethod ({ cls := "LineordersModel", name := "group", desc := "()V" } : Jvm.MethodName)) ∈ lw_all := lw_g (lw_at lw_m15 63 rfl) rfl
theorem q3680 : (Jvm.Cond.code ({ cls := "LineordersModel", name := "group", desc := "()V" } : Jvm.MethodName) prog_14_method_31_code (2 : Nat) (Option.none : Option Jvm.ClassFile.FieldType)) ∈ lw_all := lw_g (lw_at lw_m15 64 rfl) rfl
theorem q3681 : (Jvm.Cond.methodLink "LineordersModel" (182 : Nat) ({ cls := "LineordersModel", name := "plain", desc := "()V" } : Jvm.MethodName)) ∈ lw_all := lw_g (lw_at lw_m15 65 rfl) rfl
theorem q3683 : (Jvm.Cond.instanceMethod ({ cls := "LineordersModel", name := "plain", desc := "()V" } : Jvm.MethodName)) ∈ lw_all := lw_g (lw_at lw_m15 67 rfl) rfl
theorem q3684 : (Jvm.Cond.code ({ cls := "LineordersModel", name := "plain", desc := "()V" } : Jvm.MethodName) prog_14_method_30_code (1 : Nat) (Option.none : Option Jvm.ClassFile.FieldType)) ∈ lw_all := lw_g (lw_at lw_m15 68 rfl) rfl
theorem q3685 : (Jvm.Cond.methodLink "LineordersModel" (173 : Nat) ({ cls := "LineordersModel", name := "isCha\x72", desc := "(I)Z" } : Jvm.MethodName)) ∈ lw_all := lw_g (lw_at lw_m15 69 rfl) rfl
theorem q3686 : (Jvm.Cond.static ({ cls := "LineordersModel", name := "isCha\x72", desc := "(I)Z" } : Jvm.MethodName)) ∈ lw_all := lw_g (lw_at lw_m15 70 rfl) rfl
theorem q3687 : (Jvm.Cond.code ({ cls := "LineordersModel", name := "isCha\x72", desc := "(I)Z" } : Jvm.MethodName) prog_14_method_22_code (1 : Nat) (Option.some Jvm.ClassFile.FieldType.boolean)) ∈ lw_all := lw_g (lw_at lw_m15 71 rfl) rfl
theorem q3688 : (Jvm.Cond.methodLink "LineordersModel" (176 : Nat) ({ cls := "LineordersModel", name := "take", desc := "(I)V" } : Jvm.MethodName)) ∈ lw_all := lw_g (lw_at lw_m15 72 rfl) rfl
theorem q3690 : (Jvm.Cond.instanceMethod ({ cls := "LineordersModel", name := "take", desc := "(I)V" } : Jvm.MethodName)) ∈ lw_all := lw_g (lw_at lw_m15 74 rfl) rfl
theorem q3691 : (Jvm.Cond.code ({ cls := "LineordersModel", name := "take", desc := "(I)V" } : Jvm.MethodName) prog_14_method_28_code (2 : Nat) (Option.none : Option Jvm.ClassFile.FieldType)) ∈ lw_all := lw_g (lw_at lw_m15 75 rfl) rfl
theorem q3692 : (Jvm.Cond.methodLink "LineordersModel" (246 : Nat) ({ cls := "LineordersModel", name := "block", desc := "()V" } : Jvm.MethodName)) ∈ lw_all := lw_g (lw_at lw_m15 76 rfl) rfl
theorem q3694 : (Jvm.Cond.instanceMethod ({ cls := "LineordersModel", name := "block", desc := "()V" } : Jvm.MethodName)) ∈ lw_all := lw_g (lw_at lw_m15 78 rfl) rfl
theorem q3695 : (Jvm.Cond.code ({ cls := "LineordersModel", name := "block", desc := "()V" } : Jvm.MethodName) prog_14_method_44_code (1 : Nat) (Option.none : Option Jvm.ClassFile.FieldType)) ∈ lw_all := lw_g (lw_at lw_m15 79 rfl) rfl
theorem q3696 : (Jvm.Cond.methodLink "LineordersModel" (243 : Nat) ({ cls := "LineordersModel", name := "innerOrde\x72", desc := "()V" } : Jvm.MethodName)) ∈ lw_all := lw_g (lw_at lw_m15 80 rfl) rfl
theorem q3698 : (Jvm.Cond.instanceMethod ({ cls := "LineordersModel", name := "innerOrde\x72", desc := "()V" } : Jvm.MethodName)) ∈ lw_all := lw_g (lw_at lw_m15 82 rfl) rfl
theorem q3699 : (Jvm.Cond.code ({ cls := "LineordersModel", name := "innerOrde\x72", desc := "()V" } : Jvm.MethodName) prog_14_method_43_code (1 : Nat) (Option.none : Option Jvm.ClassFile.FieldType)) ∈ lw_all := lw_g (lw_at lw_m15 83 rfl) rfl
theorem q3700 : (Jvm.Cond.methodLink "LineordersModel" (239 : Nat) ({ cls := "LineordersModel", name := "plainAct", desc := "(ZZ)V" } : Jvm.MethodName)) ∈ lw_all := lw_g (lw_at lw_m15 84 rfl) rfl
theorem q3702 : (Jvm.Cond.instanceMethod ({ cls := "LineordersModel", name := "plainAct", desc := "(ZZ)V" } : Jvm.MethodName)) ∈ lw_all := lw_g (lw_at lw_m15 86 rfl) rfl
theorem q3703 : (Jvm.Cond.code ({ cls := "LineordersModel", name := "plainAct", desc := "(ZZ)V" } : Jvm.MethodName) prog_14_method_41_code (5 : Nat) (Option.none : Option Jvm.ClassFile.FieldType)) ∈ lw_all := lw_g (lw_at lw_m15 87 rfl) rfl
theorem q3704 : (Jvm.Cond.methodLink "LineordersModel" (221 : Nat) ({ cls := "LineordersModel", name := "rows", desc := "()V" } : Jvm.MethodName)) ∈ lw_all := lw_g (lw_at lw_m15 88 rfl) rfl
theorem q3706 : (Jvm.Cond.instanceMethod ({ cls := "LineordersModel", name := "rows", desc := "()V" } : Jvm.MethodName)) ∈ lw_all := lw_g (lw_at lw_m15 90 rfl) rfl
theorem q3707 : (Jvm.Cond.code ({ cls := "LineordersModel", name := "rows", desc := "()V" } : Jvm.MethodName) prog_14_method_38_code (3 : Nat) (Option.none : Option Jvm.ClassFile.FieldType)) ∈ lw_all := lw_g (lw_at lw_m15 91 rfl) rfl
theorem q3708 : (Jvm.Cond.methodLink "LineordersModel" (224 : Nat) ({ cls := "LineordersModel", name := "isLabel", desc := "(I)Z" } : Jvm.MethodName)) ∈ lw_all := lw_g (lw_at lw_m15 92 rfl) rfl
theorem q3709 : (Jvm.Cond.static ({ cls := "LineordersModel", name := "isLabel", desc := "(I)Z" } : Jvm.MethodName)) ∈ lw_all := lw_g (lw_at lw_m15 93 rfl) rfl
theorem q3710 : (Jvm.Cond.code ({ cls := "LineordersModel", name := "isLabel", desc := "(I)Z" } : Jvm.MethodName) prog_14_method_25_code (1 : Nat) (Option.some Jvm.ClassFile.FieldType.boolean)) ∈ lw_all := lw_g (lw_at lw_m15 94 rfl) rfl
theorem q3711 : (Jvm.Cond.methodLink "LineordersModel" (227 : Nat) ({ cls := "LineordersModel", name := "replacing", desc := "()V" } : Jvm.MethodName)) ∈ lw_all := lw_g (lw_at lw_m15 95 rfl) rfl
theorem q3713 : (Jvm.Cond.instanceMethod ({ cls := "LineordersModel", name := "replacing", desc := "()V" } : Jvm.MethodName)) ∈ lw_all := lw_g (lw_at lw_m15 97 rfl) rfl
theorem q3714 : (Jvm.Cond.code ({ cls := "LineordersModel", name := "replacing", desc := "()V" } : Jvm.MethodName) prog_14_method_39_code (1 : Nat) (Option.none : Option Jvm.ClassFile.FieldType)) ∈ lw_all := lw_g (lw_at lw_m15 98 rfl) rfl
theorem q3715 : (Jvm.Cond.methodLink "LineordersModel" (230 : Nat) ({ cls := "LineordersModel", name := "turning", desc := "()V" } : Jvm.MethodName)) ∈ lw_all := lw_g (lw_at lw_m15 99 rfl) rfl
theorem q3717 : (Jvm.Cond.instanceMethod ({ cls := "LineordersModel", name := "turning", desc := "()V" } : Jvm.MethodName)) ∈ lw_all := lw_g (lw_at lw_m15 101 rfl) rfl
theorem q3718 : (Jvm.Cond.code ({ cls := "LineordersModel", name := "turning", desc := "()V" } : Jvm.MethodName) prog_14_method_40_code (4 : Nat) (Option.none : Option Jvm.ClassFile.FieldType)) ∈ lw_all := lw_g (lw_at lw_m15 102 rfl) rfl
theorem q3719 : (Jvm.Cond.methodLink "LineordersModel" (233 : Nat) ({ cls := "LineordersModel", name := "isBare", desc := "(I)Z" } : Jvm.MethodName)) ∈ lw_all := lw_g (lw_at lw_m15 103 rfl) rfl
theorem q3720 : (Jvm.Cond.static ({ cls := "LineordersModel", name := "isBare", desc := "(I)Z" } : Jvm.MethodName)) ∈ lw_all := lw_g (lw_at lw_m15 104 rfl) rfl
theorem q3721 : (Jvm.Cond.code ({ cls := "LineordersModel", name := "isBare", desc := "(I)Z" } : Jvm.MethodName) prog_14_method_42_code (2 : Nat) (Option.some Jvm.ClassFile.FieldType.boolean)) ∈ lw_all := lw_g (lw_at lw_m15 105 rfl) rfl
theorem q3723 : (Jvm.Cond.instanceMethod ({ cls := "LineordersModel", name := "patternFault", desc := "()I" } : Jvm.MethodName)) ∈ lw_all := lw_g (lw_at lw_m15 107 rfl) rfl
theorem q3724 : (Jvm.Cond.selects "LineordersModel" ({ cls := "LineordersModel", name := "patternFault", desc := "()I" } : Jvm.MethodName) ({ cls := "LineordersModel", name := "patternFault", desc := "()I" } : Jvm.MethodName)) ∈ lw_all := lw_g (lw_at lw_m15 108 rfl) rfl
theorem q3725 : (Jvm.Cond.code ({ cls := "LineordersModel", name := "patternFault", desc := "()I" } : Jvm.MethodName) prog_14_method_150_code (1 : Nat) (Option.some Jvm.ClassFile.FieldType.int)) ∈ lw_all := lw_g (lw_at lw_m15 109 rfl) rfl
theorem q3726 : (Jvm.Cond.methodLink "LineordersModel" (685 : Nat) ({ cls := "LineordersModel", name := "patternsFault", desc := "()I" } : Jvm.MethodName)) ∈ lw_all := lw_g (lw_at lw_m15 110 rfl) rfl
theorem q3728 : (Jvm.Cond.instanceMethod ({ cls := "LineordersModel", name := "patternsFault", desc := "()I" } : Jvm.MethodName)) ∈ lw_all := lw_g (lw_at lw_m15 112 rfl) rfl
theorem q3729 : (Jvm.Cond.code ({ cls := "LineordersModel", name := "patternsFault", desc := "()I" } : Jvm.MethodName) prog_14_method_47_code (1 : Nat) (Option.some Jvm.ClassFile.FieldType.int)) ∈ lw_all := lw_g (lw_at lw_m15 113 rfl) rfl
theorem q3731 : (Jvm.Cond.instanceMethod ({ cls := "LineordersModel", name := "run", desc := "()I" } : Jvm.MethodName)) ∈ lw_all := lw_g (lw_at lw_m15 115 rfl) rfl
theorem q3732 : (Jvm.Cond.selects "LineordersModel" ({ cls := "LineordersModel", name := "run", desc := "()I" } : Jvm.MethodName) ({ cls := "LineordersModel", name := "run", desc := "()I" } : Jvm.MethodName)) ∈ lw_all := lw_g (lw_at lw_m15 116 rfl) rfl
theorem q3733 : (Jvm.Cond.code ({ cls := "LineordersModel", name := "run", desc := "()I" } : Jvm.MethodName) prog_14_method_151_code (1 : Nat) (Option.some Jvm.ClassFile.FieldType.int)) ∈ lw_all := lw_g (lw_at lw_m15 117 rfl) rfl
theorem q3734 : (Jvm.Cond.methodLink "LineordersModel" (688 : Nat) ({ cls := "LineordersModel", name := "doAll", desc := "()I" } : Jvm.MethodName)) ∈ lw_all := lw_g (lw_at lw_m15 118 rfl) rfl
theorem q3736 : (Jvm.Cond.instanceMethod ({ cls := "LineordersModel", name := "doAll", desc := "()I" } : Jvm.MethodName)) ∈ lw_all := lw_g (lw_at lw_m15 120 rfl) rfl
theorem q3737 : (Jvm.Cond.code ({ cls := "LineordersModel", name := "doAll", desc := "()I" } : Jvm.MethodName) prog_14_method_108_code (4 : Nat) (Option.some Jvm.ClassFile.FieldType.int)) ∈ lw_all := lw_g (lw_at lw_m15 121 rfl) rfl
theorem q3738 : (Jvm.Cond.methodLink "LineordersModel" (521 : Nat) ({ cls := "LineordersModel", name := "save", desc := "()V" } : Jvm.MethodName)) ∈ lw_all := lw_g (lw_at lw_m15 122 rfl) rfl
theorem q3740 : (Jvm.Cond.instanceMethod ({ cls := "LineordersModel", name := "save", desc := "()V" } : Jvm.MethodName)) ∈ lw_all := lw_g (lw_at lw_m15 124 rfl) rfl
theorem q3741 : (Jvm.Cond.code ({ cls := "LineordersModel", name := "save", desc := "()V" } : Jvm.MethodName) prog_14_method_98_code (2 : Nat) (Option.none : Option Jvm.ClassFile.FieldType)) ∈ lw_all := lw_g (lw_at lw_m15 125 rfl) rfl
theorem q3742 : (Jvm.Cond.methodLink "LineordersModel" (524 : Nat) ({ cls := "LineordersModel", name := "doOrde\x72", desc := "(I)I" } : Jvm.MethodName)) ∈ lw_all := lw_g (lw_at lw_m15 126 rfl) rfl
theorem q3744 : (Jvm.Cond.instanceMethod ({ cls := "LineordersModel", name := "doOrde\x72", desc := "(I)I" } : Jvm.MethodName)) ∈ lw_all := lw_g (lw_at lw_m15 128 rfl) rfl
theorem q3745 : (Jvm.Cond.code ({ cls := "LineordersModel", name := "doOrde\x72", desc := "(I)I" } : Jvm.MethodName) prog_14_method_106_code (6 : Nat) (Option.some Jvm.ClassFile.FieldType.int)) ∈ lw_all := lw_g (lw_at lw_m15 129 rfl) rfl
theorem q3746 : (Jvm.Cond.methodLink "LineordersModel" (470 : Nat) ({ cls := "LineordersModel", name := "endOf", desc := "(IZ)I" } : Jvm.MethodName)) ∈ lw_all := lw_g (lw_at lw_m15 130 rfl) rfl
theorem q3748 : (Jvm.Cond.instanceMethod ({ cls := "LineordersModel", name := "endOf", desc := "(IZ)I" } : Jvm.MethodName)) ∈ lw_all := lw_g (lw_at lw_m15 132 rfl) rfl
theorem q3749 : (Jvm.Cond.code ({ cls := "LineordersModel", name := "endOf", desc := "(IZ)I" } : Jvm.MethodName) prog_14_method_48_code (3 : Nat) (Option.some Jvm.ClassFile.FieldType.int)) ∈ lw_all := lw_g (lw_at lw_m15 133 rfl) rfl
theorem q3750 : (Jvm.Cond.methodLink "LineordersModel" (458 : Nat) ({ cls := "LineordersModel", name := "readWhere", desc := "(I)V" } : Jvm.MethodName)) ∈ lw_all := lw_g (lw_at lw_m15 134 rfl) rfl
theorem q3752 : (Jvm.Cond.instanceMethod ({ cls := "LineordersModel", name := "readWhere", desc := "(I)V" } : Jvm.MethodName)) ∈ lw_all := lw_g (lw_at lw_m15 136 rfl) rfl
theorem q3753 : (Jvm.Cond.code ({ cls := "LineordersModel", name := "readWhere", desc := "(I)V" } : Jvm.MethodName) prog_14_method_49_code (2 : Nat) (Option.none : Option Jvm.ClassFile.FieldType)) ∈ lw_all := lw_g (lw_at lw_m15 137 rfl) rfl
theorem q3754 : (Jvm.Cond.methodLink "LineordersModel" (512 : Nat) ({ cls := "LineordersModel", name := "stee\x72", desc := "(I)I" } : Jvm.MethodName)) ∈ lw_all := lw_g (lw_at lw_m15 138 rfl) rfl
theorem q3756 : (Jvm.Cond.instanceMethod ({ cls := "LineordersModel", name := "stee\x72", desc := "(I)I" } : Jvm.MethodName)) ∈ lw_all := lw_g (lw_at lw_m15 140 rfl) rfl
theorem q3757 : (Jvm.Cond.code ({ cls := "LineordersModel", name := "stee\x72", desc := "(I)I" } : Jvm.MethodName) prog_14_method_105_code (3 : Nat) (Option.some Jvm.ClassFile.FieldType.int)) ∈ lw_all := lw_g (lw_at lw_m15 141 rfl) rfl
theorem q3758 : (Jvm.Cond.methodLink "LineordersModel" (461 : Nat) ({ cls := "LineordersModel", name := "range", desc := "()I" } : Jvm.MethodName)) ∈ lw_all := lw_g (lw_at lw_m15 142 rfl) rfl
theorem q3760 : (Jvm.Cond.instanceMethod ({ cls := "LineordersModel", name := "range", desc := "()I" } : Jvm.MethodName)) ∈ lw_all := lw_g (lw_at lw_m15 144 rfl) rfl
theorem q3761 : (Jvm.Cond.code ({ cls := "LineordersModel", name := "range", desc := "()I" } : Jvm.MethodName) prog_14_method_62_code (4 : Nat) (Option.some Jvm.ClassFile.FieldType.int)) ∈ lw_all := lw_g (lw_at lw_m15 145 rfl) rfl
theorem q3762 : (Jvm.Cond.methodLink "LineordersModel" (323 : Nat) ({ cls := "LineordersModel", name := "line", desc := "(I)I" } : Jvm.MethodName)) ∈ lw_all := lw_g (lw_at lw_m15 146 rfl) rfl
theorem q3764 : (Jvm.Cond.instanceMethod ({ cls := "LineordersModel", name := "line", desc := "(I)I" } : Jvm.MethodName)) ∈ lw_all := lw_g (lw_at lw_m15 148 rfl) rfl
theorem q3765 : (Jvm.Cond.code ({ cls := "LineordersModel", name := "line", desc := "(I)I" } : Jvm.MethodName) prog_14_method_61_code (6 : Nat) (Option.some Jvm.ClassFile.FieldType.int)) ∈ lw_all := lw_g (lw_at lw_m15 149 rfl) rfl
theorem q3766 : (Jvm.Cond.methodLink "LineordersModel" (301 : Nat) ({ cls := "LineordersModel", name := "numberAt", desc := "(I)I" } : Jvm.MethodName)) ∈ lw_all := lw_g (lw_at lw_m15 150 rfl) rfl
theorem q3768 : (Jvm.Cond.instanceMethod ({ cls := "LineordersModel", name := "numberAt", desc := "(I)I" } : Jvm.MethodName)) ∈ lw_all := lw_g (lw_at lw_m15 152 rfl) rfl
theorem q3769 : (Jvm.Cond.code ({ cls := "LineordersModel", name := "numberAt", desc := "(I)I" } : Jvm.MethodName) prog_14_method_50_code (3 : Nat) (Option.some Jvm.ClassFile.FieldType.int)) ∈ lw_all := lw_g (lw_at lw_m15 153 rfl) rfl
theorem q3770 : (Jvm.Cond.methodLink "LineordersModel" (304 : Nat) ({ cls := "LineordersModel", name := "behindNumbe\x72", desc := "(I)I" } : Jvm.MethodName)) ∈ lw_all := lw_g (lw_at lw_m15 154 rfl) rfl
theorem q3772 : (Jvm.Cond.instanceMethod ({ cls := "LineordersModel", name := "behindNumbe\x72", desc := "(I)I" } : Jvm.MethodName)) ∈ lw_all := lw_g (lw_at lw_m15 156 rfl) rfl
theorem q3773 : (Jvm.Cond.code ({ cls := "LineordersModel", name := "behindNumbe\x72", desc := "(I)I" } : Jvm.MethodName) prog_14_method_51_code (2 : Nat) (Option.some Jvm.ClassFile.FieldType.int)) ∈ lw_all := lw_g (lw_at lw_m15 157 rfl) rfl
theorem q3774 : (Jvm.Cond.methodLink "LineordersModel" (307 : Nat) ({ cls := "LineordersModel", name := "lineWith", desc := "(I)I" } : Jvm.MethodName)) ∈ lw_all := lw_g (lw_at lw_m15 158 rfl) rfl
theorem q3776 : (Jvm.Cond.instanceMethod ({ cls := "LineordersModel", name := "lineWith", desc := "(I)I" } : Jvm.MethodName)) ∈ lw_all := lw_g (lw_at lw_m15 160 rfl) rfl
theorem q3777 : (Jvm.Cond.code ({ cls := "LineordersModel", name := "lineWith", desc := "(I)I" } : Jvm.MethodName) prog_14_method_18_code (3 : Nat) (Option.some Jvm.ClassFile.FieldType.int)) ∈ lw_all := lw_g (lw_at lw_m15 161 rfl) rfl
theorem q3778 : (Jvm.Cond.methodLink "LineordersModel" (310 : Nat) ({ cls := "LineordersModel", name := "compile", desc := "(II)V" } : Jvm.MethodName)) ∈ lw_all := lw_g (lw_at lw_m15 162 rfl) rfl
theorem q3780 : (Jvm.Cond.instanceMethod ({ cls := "LineordersModel", name := "compile", desc := "(II)V" } : Jvm.MethodName)) ∈ lw_all := lw_g (lw_at lw_m15 164 rfl) rfl
theorem q3781 : (Jvm.Cond.code ({ cls := "LineordersModel", name := "compile", desc := "(II)V" } : Jvm.MethodName) prog_14_method_53_code (6 : Nat) (Option.none : Option Jvm.ClassFile.FieldType)) ∈ lw_all := lw_g (lw_at lw_m15 165 rfl) rfl
theorem q3782 : (Jvm.Cond.methodLink "LineordersModel" (265 : Nat) ({ cls := "LineordersModel", name := "element", desc := "(II)V" } : Jvm.MethodName)) ∈ lw_all := lw_g (lw_at lw_m15 166 rfl) rfl
theorem q3784 : (Jvm.Cond.instanceMethod ({ cls := "LineordersModel", name := "element", desc := "(II)V" } : Jvm.MethodName)) ∈ lw_all := lw_g (lw_at lw_m15 168 rfl) rfl
theorem q3785 : (Jvm.Cond.code ({ cls := "LineordersModel", name := "element", desc := "(II)V" } : Jvm.MethodName) prog_14_method_52_code (3 : Nat) (Option.none : Option Jvm.ClassFile.FieldType)) ∈ lw_all := lw_g (lw_at lw_m15 169 rfl) rfl
theorem q3786 : (Jvm.Cond.methodLink "LineordersModel" (313 : Nat) ({ cls := "LineordersModel", name := "seek", desc := "(Z)I" } : Jvm.MethodName)) ∈ lw_all := lw_g (lw_at lw_m15 170 rfl) rfl
theorem q3788 : (Jvm.Cond.instanceMethod ({ cls := "LineordersModel", name := "seek", desc := "(Z)I" } : Jvm.MethodName)) ∈ lw_all := lw_g (lw_at lw_m15 172 rfl) rfl
theorem q3789 : (Jvm.Cond.code ({ cls := "LineordersModel", name := "seek", desc := "(Z)I" } : Jvm.MethodName) prog_14_method_60_code (4 : Nat) (Option.some Jvm.ClassFile.FieldType.int)) ∈ lw_all := lw_g (lw_at lw_m15 173 rfl) rfl
theorem q3790 : (Jvm.Cond.methodLink "LineordersModel" (298 : Nat) ({ cls := "LineordersModel", name := "textRow", desc := "(I)I" } : Jvm.MethodName)) ∈ lw_all := lw_g (lw_at lw_m15 174 rfl) rfl
theorem q3791 : (Jvm.Cond.static ({ cls := "LineordersModel", name := "textRow", desc := "(I)I" } : Jvm.MethodName)) ∈ lw_all := lw_g (lw_at lw_m15 175 rfl) rfl
theorem q3792 : (Jvm.Cond.code ({ cls := "LineordersModel", name := "textRow", desc := "(I)I" } : Jvm.MethodName) prog_14_method_12_code (1 : Nat) (Option.some Jvm.ClassFile.FieldType.int)) ∈ lw_all := lw_g (lw_at lw_m15 176 rfl) rfl
theorem q3793 : (Jvm.Cond.methodLink "LineordersModel" (292 : Nat) ({ cls := "LineordersModel", name := "finds", desc := "(II)Z" } : Jvm.MethodName)) ∈ lw_all := lw_g (lw_at lw_m15 177 rfl) rfl
theorem q3795 : (Jvm.Cond.instanceMethod ({ cls := "LineordersModel", name := "finds", desc := "(II)Z" } : Jvm.MethodName)) ∈ lw_all := lw_g (lw_at lw_m15 179 rfl) rfl
theorem q3796 : (Jvm.Cond.code ({ cls := "LineordersModel", name := "finds", desc := "(II)Z" } : Jvm.MethodName) prog_14_method_58_code (4 : Nat) (Option.some Jvm.ClassFile.FieldType.boolean)) ∈ lw_all := lw_g (lw_at lw_m15 180 rfl) rfl
theorem q3797 : (Jvm.Cond.methodLink "LineordersModel" (109 : Nat) ({ cls := "LineordersModel", name := "len", desc := "(I)I" } : Jvm.MethodName)) ∈ lw_all := lw_g (lw_at lw_m15 181 rfl) rfl
theorem q3799 : (Jvm.Cond.instanceMethod ({ cls := "LineordersModel", name := "len", desc := "(I)I" } : Jvm.MethodName)) ∈ lw_all := lw_g (lw_at lw_m15 183 rfl) rfl
theorem q3800 : (Jvm.Cond.code ({ cls := "LineordersModel", name := "len", desc := "(I)I" } : Jvm.MethodName) prog_14_method_3_code (2 : Nat) (Option.some Jvm.ClassFile.FieldType.int)) ∈ lw_all := lw_g (lw_at lw_m15 184 rfl) rfl
theorem q3801 : (Jvm.Cond.methodLink "LineordersModel" (286 : Nat) ({ cls := "LineordersModel", name := "matches", desc := "(II)Z" } : Jvm.MethodName)) ∈ lw_all := lw_g (lw_at lw_m15 185 rfl) rfl
theorem q3803 : (Jvm.Cond.instanceMethod ({ cls := "LineordersModel", name := "matches", desc := "(II)Z" } : Jvm.MethodName)) ∈ lw_all := lw_g (lw_at lw_m15 187 rfl) rfl
theorem q3804 : (Jvm.Cond.code ({ cls := "LineordersModel", name := "matches", desc := "(II)Z" } : Jvm.MethodName) prog_14_method_57_code (6 : Nat) (Option.some Jvm.ClassFile.FieldType.boolean)) ∈ lw_all := lw_g (lw_at lw_m15 188 rfl) rfl
theorem q3805 : (Jvm.Cond.methodLink "LineordersModel" (282 : Nat) ({ cls := "LineordersModel", name := "fits", desc := "(IIII)Z" } : Jvm.MethodName)) ∈ lw_all := lw_g (lw_at lw_m15 189 rfl) rfl
theorem q3807 : (Jvm.Cond.instanceMethod ({ cls := "LineordersModel", name := "fits", desc := "(IIII)Z" } : Jvm.MethodName)) ∈ lw_all := lw_g (lw_at lw_m15 191 rfl) rfl
theorem q3808 : (Jvm.Cond.code ({ cls := "LineordersModel", name := "fits", desc := "(IIII)Z" } : Jvm.MethodName) prog_14_method_56_code (11 : Nat) (Option.some Jvm.ClassFile.FieldType.boolean)) ∈ lw_all := lw_g (lw_at lw_m15 192 rfl) rfl
theorem q3809 : (Jvm.Cond.methodLink "LineordersModel" (271 : Nat) ({ cls := "LineordersModel", name := "isBack", desc := "(III)Z" } : Jvm.MethodName)) ∈ lw_all := lw_g (lw_at lw_m15 193 rfl) rfl
theorem q3811 : (Jvm.Cond.instanceMethod ({ cls := "LineordersModel", name := "isBack", desc := "(III)Z" } : Jvm.MethodName)) ∈ lw_all := lw_g (lw_at lw_m15 195 rfl) rfl
theorem q3812 : (Jvm.Cond.code ({ cls := "LineordersModel", name := "isBack", desc := "(III)Z" } : Jvm.MethodName) prog_14_method_55_code (7 : Nat) (Option.some Jvm.ClassFile.FieldType.boolean)) ∈ lw_all := lw_g (lw_at lw_m15 196 rfl) rfl
theorem q3813 : (Jvm.Cond.methodLink "LineordersModel" (113 : Nat) ({ cls := "LineordersModel", name := "sign", desc := "(II)I" } : Jvm.MethodName)) ∈ lw_all := lw_g (lw_at lw_m15 197 rfl) rfl
theorem q3815 : (Jvm.Cond.instanceMethod ({ cls := "LineordersModel", name := "sign", desc := "(II)I" } : Jvm.MethodName)) ∈ lw_all := lw_g (lw_at lw_m15 199 rfl) rfl
theorem q3816 : (Jvm.Cond.code ({ cls := "LineordersModel", name := "sign", desc := "(II)I" } : Jvm.MethodName) prog_14_method_4_code (3 : Nat) (Option.some Jvm.ClassFile.FieldType.int)) ∈ lw_all := lw_g (lw_at lw_m15 200 rfl) rfl
theorem q3817 : (Jvm.Cond.methodLink "LineordersModel" (275 : Nat) ({ cls := "LineordersModel", name := "isInClass", desc := "(II)Z" } : Jvm.MethodName)) ∈ lw_all := lw_g (lw_at lw_m15 201 rfl) rfl
theorem q3819 : (Jvm.Cond.instanceMethod ({ cls := "LineordersModel", name := "isInClass", desc := "(II)Z" } : Jvm.MethodName)) ∈ lw_all := lw_g (lw_at lw_m15 203 rfl) rfl
theorem q3820 : (Jvm.Cond.code ({ cls := "LineordersModel", name := "isInClass", desc := "(II)Z" } : Jvm.MethodName) prog_14_method_54_code (6 : Nat) (Option.some Jvm.ClassFile.FieldType.boolean)) ∈ lw_all := lw_g (lw_at lw_m15 204 rfl) rfl
theorem q3821 : (Jvm.Cond.methodLink "LineordersModel" (509 : Nat) ({ cls := "LineordersModel", name := "jump", desc := "(I)I" } : Jvm.MethodName)) ∈ lw_all := lw_g (lw_at lw_m15 205 rfl) rfl
theorem q3823 : (Jvm.Cond.instanceMethod ({ cls := "LineordersModel", name := "jump", desc := "(I)I" } : Jvm.MethodName)) ∈ lw_all := lw_g (lw_at lw_m15 207 rfl) rfl
theorem q3824 : (Jvm.Cond.code ({ cls := "LineordersModel", name := "jump", desc := "(I)I" } : Jvm.MethodName) prog_14_method_104_code (3 : Nat) (Option.some Jvm.ClassFile.FieldType.int)) ∈ lw_all := lw_g (lw_at lw_m15 208 rfl) rfl
theorem q3825 : (Jvm.Cond.methodLink "LineordersModel" (503 : Nat) ({ cls := "LineordersModel", name := "behindLabel", desc := "(I)I" } : Jvm.MethodName)) ∈ lw_all := lw_g (lw_at lw_m15 209 rfl) rfl
theorem q3827 : (Jvm.Cond.instanceMethod ({ cls := "LineordersModel", name := "behindLabel", desc := "(I)I" } : Jvm.MethodName)) ∈ lw_all := lw_g (lw_at lw_m15 211 rfl) rfl
theorem q3828 : (Jvm.Cond.code ({ cls := "LineordersModel", name := "behindLabel", desc := "(I)I" } : Jvm.MethodName) prog_14_method_103_code (4 : Nat) (Option.some Jvm.ClassFile.FieldType.int)) ∈ lw_all := lw_g (lw_at lw_m15 212 rfl) rfl
theorem q3829 : (Jvm.Cond.methodLink "LineordersModel" (515 : Nat) ({ cls := "LineordersModel", name := "each", desc := "(I)I" } : Jvm.MethodName)) ∈ lw_all := lw_g (lw_at lw_m15 213 rfl) rfl
theorem q3831 : (Jvm.Cond.instanceMethod ({ cls := "LineordersModel", name := "each", desc := "(I)I" } : Jvm.MethodName)) ∈ lw_all := lw_g (lw_at lw_m15 215 rfl) rfl
theorem q3832 : (Jvm.Cond.code ({ cls := "LineordersModel", name := "each", desc := "(I)I" } : Jvm.MethodName) prog_14_method_97_code (8 : Nat) (Option.some Jvm.ClassFile.FieldType.int)) ∈ lw_all := lw_g (lw_at lw_m15 216 rfl) rfl
theorem q3833 : (Jvm.Cond.methodLink "LineordersModel" (473 : Nat) ({ cls := "LineordersModel", name := "doParts", desc := "(I)I" } : Jvm.MethodName)) ∈ lw_all := lw_g (lw_at lw_m15 217 rfl) rfl
theorem q3835 : (Jvm.Cond.instanceMethod ({ cls := "LineordersModel", name := "doParts", desc := "(I)I" } : Jvm.MethodName)) ∈ lw_all := lw_g (lw_at lw_m15 219 rfl) rfl
theorem q3836 : (Jvm.Cond.code ({ cls := "LineordersModel", name := "doParts", desc := "(I)I" } : Jvm.MethodName) prog_14_method_96_code (5 : Nat) (Option.some Jvm.ClassFile.FieldType.int)) ∈ lw_all := lw_g (lw_at lw_m15 220 rfl) rfl
theorem q3837 : (Jvm.Cond.methodLink "LineordersModel" (467 : Nat) ({ cls := "LineordersModel", name := "doInne\x72", desc := "(I)I" } : Jvm.MethodName)) ∈ lw_all := lw_g (lw_at lw_m15 221 rfl) rfl
theorem q3839 : (Jvm.Cond.instanceMethod ({ cls := "LineordersModel", name := "doInne\x72", desc := "(I)I" } : Jvm.MethodName)) ∈ lw_all := lw_g (lw_at lw_m15 223 rfl) rfl
theorem q3840 : (Jvm.Cond.code ({ cls := "LineordersModel", name := "doInne\x72", desc := "(I)I" } : Jvm.MethodName) prog_14_method_95_code (4 : Nat) (Option.some Jvm.ClassFile.FieldType.int)) ∈ lw_all := lw_g (lw_at lw_m15 224 rfl) rfl
theorem q3841 : (Jvm.Cond.methodLink "LineordersModel" (464 : Nat) ({ cls := "LineordersModel", name := "act", desc := "(I)I" } : Jvm.MethodName)) ∈ lw_all := lw_g (lw_at lw_m15 225 rfl) rfl
theorem q3843 : (Jvm.Cond.instanceMethod ({ cls := "LineordersModel", name := "act", desc := "(I)I" } : Jvm.MethodName)) ∈ lw_all := lw_g (lw_at lw_m15 227 rfl) rfl
theorem q3844 : (Jvm.Cond.code ({ cls := "LineordersModel", name := "act", desc := "(I)I" } : Jvm.MethodName) prog_14_method_93_code (3 : Nat) (Option.some Jvm.ClassFile.FieldType.int)) ∈ lw_all := lw_g (lw_at lw_m15 228 rfl) rfl
theorem q3845 : (Jvm.Cond.methodLink "LineordersModel" (397 : Nat) ({ cls := "LineordersModel", name := "append", desc := "(II)I" } : Jvm.MethodName)) ∈ lw_all := lw_g (lw_at lw_m15 229 rfl) rfl
theorem q3847 : (Jvm.Cond.instanceMethod ({ cls := "LineordersModel", name := "append", desc := "(II)I" } : Jvm.MethodName)) ∈ lw_all := lw_g (lw_at lw_m15 231 rfl) rfl
theorem q3848 : (Jvm.Cond.code ({ cls := "LineordersModel", name := "append", desc := "(II)I" } : Jvm.MethodName) prog_14_method_66_code (4 : Nat) (Option.some Jvm.ClassFile.FieldType.int)) ∈ lw_all := lw_g (lw_at lw_m15 232 rfl) rfl
theorem q3849 : (Jvm.Cond.methodLink "LineordersModel" (335 : Nat) ({ cls := "LineordersModel", name := "rowsAt", desc := "(I)I" } : Jvm.MethodName)) ∈ lw_all := lw_g (lw_at lw_m15 233 rfl) rfl
theorem q3851 : (Jvm.Cond.instanceMethod ({ cls := "LineordersModel", name := "rowsAt", desc := "(I)I" } : Jvm.MethodName)) ∈ lw_all := lw_g (lw_at lw_m15 235 rfl) rfl
theorem q3852 : (Jvm.Cond.code ({ cls := "LineordersModel", name := "rowsAt", desc := "(I)I" } : Jvm.MethodName) prog_14_method_63_code (4 : Nat) (Option.some Jvm.ClassFile.FieldType.int)) ∈ lw_all := lw_g (lw_at lw_m15 236 rfl) rfl
theorem q3853 : (Jvm.Cond.methodLink "LineordersModel" (338 : Nat) ({ cls := "LineordersModel", name := "bringTold", desc := "(III)V" } : Jvm.MethodName)) ∈ lw_all := lw_g (lw_at lw_m15 237 rfl) rfl
theorem q3855 : (Jvm.Cond.instanceMethod ({ cls := "LineordersModel", name := "bringTold", desc := "(III)V" } : Jvm.MethodName)) ∈ lw_all := lw_g (lw_at lw_m15 239 rfl) rfl
theorem q3856 : (Jvm.Cond.code ({ cls := "LineordersModel", name := "bringTold", desc := "(III)V" } : Jvm.MethodName) prog_14_method_65_code (6 : Nat) (Option.none : Option Jvm.ClassFile.FieldType)) ∈ lw_all := lw_g (lw_at lw_m16 0 rfl) rfl
theorem q3857 : (Jvm.Cond.methodLink "LineordersModel" (326 : Nat) ({ cls := "LineordersModel", name := "makeTold", desc := "(I)I" } : Jvm.MethodName)) ∈ lw_all := lw_g (lw_at lw_m16 1 rfl) rfl
theorem q3859 : (Jvm.Cond.instanceMethod ({ cls := "LineordersModel", name := "makeTold", desc := "(I)I" } : Jvm.MethodName)) ∈ lw_all := lw_g (lw_at lw_m16 3 rfl) rfl
theorem q3860 : (Jvm.Cond.code ({ cls := "LineordersModel", name := "makeTold", desc := "(I)I" } : Jvm.MethodName) prog_14_method_64_code (3 : Nat) (Option.some Jvm.ClassFile.FieldType.int)) ∈ lw_all := lw_g (lw_at lw_m16 4 rfl) rfl
theorem q3861 : (Jvm.Cond.methodLink "LineordersModel" (120 : Nat) ({ cls := "LineordersModel", name := "makes", desc := "(I)V" } : Jvm.MethodName)) ∈ lw_all := lw_g (lw_at lw_m16 5 rfl) rfl
theorem q3863 : (Jvm.Cond.instanceMethod ({ cls := "LineordersModel", name := "makes", desc := "(I)V" } : Jvm.MethodName)) ∈ lw_all := lw_g (lw_at lw_m16 7 rfl) rfl
theorem q3864 : (Jvm.Cond.code ({ cls := "LineordersModel", name := "makes", desc := "(I)V" } : Jvm.MethodName) prog_14_method_8_code (2 : Nat) (Option.none : Option Jvm.ClassFile.FieldType)) ∈ lw_all := lw_g (lw_at lw_m16 8 rfl) rfl
theorem q3865 : (Jvm.Cond.methodLink "LineordersModel" (329 : Nat) ({ cls := "LineordersModel", name := "lays", desc := "(I)Z" } : Jvm.MethodName)) ∈ lw_all := lw_g (lw_at lw_m16 9 rfl) rfl
theorem q3867 : (Jvm.Cond.instanceMethod ({ cls := "LineordersModel", name := "lays", desc := "(I)Z" } : Jvm.MethodName)) ∈ lw_all := lw_g (lw_at lw_m16 11 rfl) rfl
theorem q3868 : (Jvm.Cond.code ({ cls := "LineordersModel", name := "lays", desc := "(I)Z" } : Jvm.MethodName) prog_14_method_11_code (3 : Nat) (Option.some Jvm.ClassFile.FieldType.boolean)) ∈ lw_all := lw_g (lw_at lw_m16 12 rfl) rfl
theorem q3869 : (Jvm.Cond.methodLink "LineordersModel" (332 : Nat) ({ cls := "LineordersModel", name := "bring", desc := "(II)V" } : Jvm.MethodName)) ∈ lw_all := lw_g (lw_at lw_m16 13 rfl) rfl
theorem q3871 : (Jvm.Cond.instanceMethod ({ cls := "LineordersModel", name := "bring", desc := "(II)V" } : Jvm.MethodName)) ∈ lw_all := lw_g (lw_at lw_m16 15 rfl) rfl
theorem q3872 : (Jvm.Cond.code ({ cls := "LineordersModel", name := "bring", desc := "(II)V" } : Jvm.MethodName) prog_14_method_15_code (3 : Nat) (Option.none : Option Jvm.ClassFile.FieldType)) ∈ lw_all := lw_g (lw_at lw_m16 16 rfl) rfl
theorem q3873 : (Jvm.Cond.methodLink "LineordersModel" (131 : Nat) ({ cls := "LineordersModel", name := "open", desc := "(I)V" } : Jvm.MethodName)) ∈ lw_all := lw_g (lw_at lw_m16 17 rfl) rfl
theorem q3875 : (Jvm.Cond.instanceMethod ({ cls := "LineordersModel", name := "open", desc := "(I)V" } : Jvm.MethodName)) ∈ lw_all := lw_g (lw_at lw_m16 19 rfl) rfl
theorem q3876 : (Jvm.Cond.code ({ cls := "LineordersModel", name := "open", desc := "(I)V" } : Jvm.MethodName) prog_14_method_13_code (3 : Nat) (Option.none : Option Jvm.ClassFile.FieldType)) ∈ lw_all := lw_g (lw_at lw_m16 20 rfl) rfl
theorem q3877 : (Jvm.Cond.methodLink "LineordersModel" (127 : Nat) ({ cls := "LineordersModel", name := "copyRow", desc := "(II)V" } : Jvm.MethodName)) ∈ lw_all := lw_g (lw_at lw_m16 21 rfl) rfl
theorem q3879 : (Jvm.Cond.instanceMethod ({ cls := "LineordersModel", name := "copyRow", desc := "(II)V" } : Jvm.MethodName)) ∈ lw_all := lw_g (lw_at lw_m16 23 rfl) rfl
theorem q3880 : (Jvm.Cond.code ({ cls := "LineordersModel", name := "copyRow", desc := "(II)V" } : Jvm.MethodName) prog_14_method_5_code (4 : Nat) (Option.none : Option Jvm.ClassFile.FieldType)) ∈ lw_all := lw_g (lw_at lw_m16 24 rfl) rfl
theorem q3881 : (Jvm.Cond.methodLink "LineordersModel" (400 : Nat) ({ cls := "LineordersModel", name := "change", desc := "(I)I" } : Jvm.MethodName)) ∈ lw_all := lw_g (lw_at lw_m16 25 rfl) rfl
theorem q3883 : (Jvm.Cond.instanceMethod ({ cls := "LineordersModel", name := "change", desc := "(I)I" } : Jvm.MethodName)) ∈ lw_all := lw_g (lw_at lw_m16 27 rfl) rfl
theorem q3884 : (Jvm.Cond.code ({ cls := "LineordersModel", name := "change", desc := "(I)I" } : Jvm.MethodName) prog_14_method_68_code (3 : Nat) (Option.some Jvm.ClassFile.FieldType.int)) ∈ lw_all := lw_g (lw_at lw_m16 28 rfl) rfl
theorem q3885 : (Jvm.Cond.methodLink "LineordersModel" (345 : Nat) ({ cls := "LineordersModel", name := "goAll", desc := "()V" } : Jvm.MethodName)) ∈ lw_all := lw_g (lw_at lw_m16 29 rfl) rfl
theorem q3887 : (Jvm.Cond.instanceMethod ({ cls := "LineordersModel", name := "goAll", desc := "()V" } : Jvm.MethodName)) ∈ lw_all := lw_g (lw_at lw_m16 31 rfl) rfl
theorem q3888 : (Jvm.Cond.code ({ cls := "LineordersModel", name := "goAll", desc := "()V" } : Jvm.MethodName) prog_14_method_67_code (2 : Nat) (Option.none : Option Jvm.ClassFile.FieldType)) ∈ lw_all := lw_g (lw_at lw_m16 32 rfl) rfl
theorem q3889 : (Jvm.Cond.methodLink "LineordersModel" (342 : Nat) ({ cls := "LineordersModel", name := "goes", desc := "(I)V" } : Jvm.MethodName)) ∈ lw_all := lw_g (lw_at lw_m16 33 rfl) rfl
theorem q3891 : (Jvm.Cond.instanceMethod ({ cls := "LineordersModel", name := "goes", desc := "(I)V" } : Jvm.MethodName)) ∈ lw_all := lw_g (lw_at lw_m16 35 rfl) rfl
theorem q3892 : (Jvm.Cond.code ({ cls := "LineordersModel", name := "goes", desc := "(I)V" } : Jvm.MethodName) prog_14_method_17_code (2 : Nat) (Option.none : Option Jvm.ClassFile.FieldType)) ∈ lw_all := lw_g (lw_at lw_m16 36 rfl) rfl
theorem q3893 : (Jvm.Cond.methodLink "LineordersModel" (137 : Nat) ({ cls := "LineordersModel", name := "unmark", desc := "(I)V" } : Jvm.MethodName)) ∈ lw_all := lw_g (lw_at lw_m16 37 rfl) rfl
theorem q3895 : (Jvm.Cond.instanceMethod ({ cls := "LineordersModel", name := "unmark", desc := "(I)V" } : Jvm.MethodName)) ∈ lw_all := lw_g (lw_at lw_m16 39 rfl) rfl
theorem q3896 : (Jvm.Cond.code ({ cls := "LineordersModel", name := "unmark", desc := "(I)V" } : Jvm.MethodName) prog_14_method_16_code (3 : Nat) (Option.none : Option Jvm.ClassFile.FieldType)) ∈ lw_all := lw_g (lw_at lw_m16 40 rfl) rfl
theorem q3897 : (Jvm.Cond.methodLink "LineordersModel" (140 : Nat) ({ cls := "LineordersModel", name := "close", desc := "(I)V" } : Jvm.MethodName)) ∈ lw_all := lw_g (lw_at lw_m16 41 rfl) rfl
theorem q3899 : (Jvm.Cond.instanceMethod ({ cls := "LineordersModel", name := "close", desc := "(I)V" } : Jvm.MethodName)) ∈ lw_all := lw_g (lw_at lw_m16 43 rfl) rfl
theorem q3900 : (Jvm.Cond.code ({ cls := "LineordersModel", name := "close", desc := "(I)V" } : Jvm.MethodName) prog_14_method_14_code (3 : Nat) (Option.none : Option Jvm.ClassFile.FieldType)) ∈ lw_all := lw_g (lw_at lw_m16 44 rfl) rfl
theorem q3901 : (Jvm.Cond.methodLink "LineordersModel" (403 : Nat) ({ cls := "LineordersModel", name := "delete", desc := "()I" } : Jvm.MethodName)) ∈ lw_all := lw_g (lw_at lw_m16 45 rfl) rfl
theorem q3903 : (Jvm.Cond.instanceMethod ({ cls := "LineordersModel", name := "delete", desc := "()I" } : Jvm.MethodName)) ∈ lw_all := lw_g (lw_at lw_m16 47 rfl) rfl
theorem q3904 : (Jvm.Cond.code ({ cls := "LineordersModel", name := "delete", desc := "()I" } : Jvm.MethodName) prog_14_method_69_code (1 : Nat) (Option.some Jvm.ClassFile.FieldType.int)) ∈ lw_all := lw_g (lw_at lw_m16 48 rfl) rfl
theorem q3905 : (Jvm.Cond.methodLink "LineordersModel" (406 : Nat) ({ cls := "LineordersModel", name := "join", desc := "()I" } : Jvm.MethodName)) ∈ lw_all := lw_g (lw_at lw_m16 49 rfl) rfl
theorem q3907 : (Jvm.Cond.instanceMethod ({ cls := "LineordersModel", name := "join", desc := "()I" } : Jvm.MethodName)) ∈ lw_all := lw_g (lw_at lw_m16 51 rfl) rfl
theorem q3908 : (Jvm.Cond.code ({ cls := "LineordersModel", name := "join", desc := "()I" } : Jvm.MethodName) prog_14_method_70_code (2 : Nat) (Option.some Jvm.ClassFile.FieldType.int)) ∈ lw_all := lw_g (lw_at lw_m16 52 rfl) rfl
theorem q3909 : (Jvm.Cond.methodLink "LineordersModel" (348 : Nat) ({ cls := "LineordersModel", name := "makesRow", desc := "(III)V" } : Jvm.MethodName)) ∈ lw_all := lw_g (lw_at lw_m16 53 rfl) rfl
theorem q3911 : (Jvm.Cond.instanceMethod ({ cls := "LineordersModel", name := "makesRow", desc := "(III)V" } : Jvm.MethodName)) ∈ lw_all := lw_g (lw_at lw_m16 55 rfl) rfl
theorem q3912 : (Jvm.Cond.code ({ cls := "LineordersModel", name := "makesRow", desc := "(III)V" } : Jvm.MethodName) prog_14_method_9_code (5 : Nat) (Option.none : Option Jvm.ClassFile.FieldType)) ∈ lw_all := lw_g (lw_at lw_m16 56 rfl) rfl
theorem q3913 : (Jvm.Cond.methodLink "LineordersModel" (409 : Nat) ({ cls := "LineordersModel", name := "part", desc := "(I)I" } : Jvm.MethodName)) ∈ lw_all := lw_g (lw_at lw_m16 57 rfl) rfl
theorem q3915 : (Jvm.Cond.instanceMethod ({ cls := "LineordersModel", name := "part", desc := "(I)I" } : Jvm.MethodName)) ∈ lw_all := lw_g (lw_at lw_m16 59 rfl) rfl
theorem q3916 : (Jvm.Cond.code ({ cls := "LineordersModel", name := "part", desc := "(I)I" } : Jvm.MethodName) prog_14_method_71_code (4 : Nat) (Option.some Jvm.ClassFile.FieldType.int)) ∈ lw_all := lw_g (lw_at lw_m16 60 rfl) rfl
theorem q3917 : (Jvm.Cond.methodLink "LineordersModel" (351 : Nat) ({ cls := "LineordersModel", name := "cutTo", desc := "(II)V" } : Jvm.MethodName)) ∈ lw_all := lw_g (lw_at lw_m16 61 rfl) rfl
theorem q3919 : (Jvm.Cond.instanceMethod ({ cls := "LineordersModel", name := "cutTo", desc := "(II)V" } : Jvm.MethodName)) ∈ lw_all := lw_g (lw_at lw_m16 63 rfl) rfl
theorem q3920 : (Jvm.Cond.code ({ cls := "LineordersModel", name := "cutTo", desc := "(II)V" } : Jvm.MethodName) prog_14_method_7_code (3 : Nat) (Option.none : Option Jvm.ClassFile.FieldType)) ∈ lw_all := lw_g (lw_at lw_m16 64 rfl) rfl
theorem q3921 : (Jvm.Cond.methodLink "LineordersModel" (412 : Nat) ({ cls := "LineordersModel", name := "lessAlike", desc := "()I" } : Jvm.MethodName)) ∈ lw_all := lw_g (lw_at lw_m16 65 rfl) rfl
theorem q3923 : (Jvm.Cond.instanceMethod ({ cls := "LineordersModel", name := "lessAlike", desc := "()I" } : Jvm.MethodName)) ∈ lw_all := lw_g (lw_at lw_m16 67 rfl) rfl
theorem q3924 : (Jvm.Cond.code ({ cls := "LineordersModel", name := "lessAlike", desc := "()I" } : Jvm.MethodName) prog_14_method_72_code (4 : Nat) (Option.some Jvm.ClassFile.FieldType.int)) ∈ lw_all := lw_g (lw_at lw_m16 68 rfl) rfl
theorem q3925 : (Jvm.Cond.methodLink "LineordersModel" (354 : Nat) ({ cls := "LineordersModel", name := "areSame", desc := "(II)Z" } : Jvm.MethodName)) ∈ lw_all := lw_g (lw_at lw_m16 69 rfl) rfl
theorem q3927 : (Jvm.Cond.instanceMethod ({ cls := "LineordersModel", name := "areSame", desc := "(II)Z" } : Jvm.MethodName)) ∈ lw_all := lw_g (lw_at lw_m16 71 rfl) rfl
theorem q3928 : (Jvm.Cond.code ({ cls := "LineordersModel", name := "areSame", desc := "(II)Z" } : Jvm.MethodName) prog_14_method_6_code (5 : Nat) (Option.some Jvm.ClassFile.FieldType.boolean)) ∈ lw_all := lw_g (lw_at lw_m16 72 rfl) rfl
theorem q3929 : (Jvm.Cond.methodLink "LineordersModel" (415 : Nat) ({ cls := "LineordersModel", name := "print", desc := "(Z)I" } : Jvm.MethodName)) ∈ lw_all := lw_g (lw_at lw_m16 73 rfl) rfl
theorem q3931 : (Jvm.Cond.instanceMethod ({ cls := "LineordersModel", name := "print", desc := "(Z)I" } : Jvm.MethodName)) ∈ lw_all := lw_g (lw_at lw_m16 75 rfl) rfl
theorem q3932 : (Jvm.Cond.code ({ cls := "LineordersModel", name := "print", desc := "(Z)I" } : Jvm.MethodName) prog_14_method_74_code (3 : Nat) (Option.some Jvm.ClassFile.FieldType.int)) ∈ lw_all := lw_g (lw_at lw_m16 76 rfl) rfl
theorem q3933 : (Jvm.Cond.methodLink "LineordersModel" (360 : Nat) ({ cls := "LineordersModel", name := "makesNumbe\x72", desc := "(I)V" } : Jvm.MethodName)) ∈ lw_all := lw_g (lw_at lw_m16 77 rfl) rfl
theorem q3935 : (Jvm.Cond.instanceMethod ({ cls := "LineordersModel", name := "makesNumbe\x72", desc := "(I)V" } : Jvm.MethodName)) ∈ lw_all := lw_g (lw_at lw_m16 79 rfl) rfl
theorem q3936 : (Jvm.Cond.code ({ cls := "LineordersModel", name := "makesNumbe\x72", desc := "(I)V" } : Jvm.MethodName) prog_14_method_10_code (2 : Nat) (Option.none : Option Jvm.ClassFile.FieldType)) ∈ lw_all := lw_g (lw_at lw_m16 80 rfl) rfl
theorem q3937 : (Jvm.Cond.methodLink "LineordersModel" (363 : Nat) ({ cls := "LineordersModel", name := "tells", desc := "()I" } : Jvm.MethodName)) ∈ lw_all := lw_g (lw_at lw_m16 81 rfl) rfl
theorem q3939 : (Jvm.Cond.instanceMethod ({ cls := "LineordersModel", name := "tells", desc := "()I" } : Jvm.MethodName)) ∈ lw_all := lw_g (lw_at lw_m16 83 rfl) rfl
theorem q3940 : (Jvm.Cond.code ({ cls := "LineordersModel", name := "tells", desc := "()I" } : Jvm.MethodName) prog_14_method_73_code (1 : Nat) (Option.some Jvm.ClassFile.FieldType.int)) ∈ lw_all := lw_g (lw_at lw_m16 84 rfl) rfl
theorem q3941 : (Jvm.Cond.methodLink "LineordersModel" (418 : Nat) ({ cls := "LineordersModel", name := "hold", desc := "(I)I" } : Jvm.MethodName)) ∈ lw_all := lw_g (lw_at lw_m16 85 rfl) rfl
theorem q3943 : (Jvm.Cond.instanceMethod ({ cls := "LineordersModel", name := "hold", desc := "(I)I" } : Jvm.MethodName)) ∈ lw_all := lw_g (lw_at lw_m16 87 rfl) rfl
theorem q3944 : (Jvm.Cond.code ({ cls := "LineordersModel", name := "hold", desc := "(I)I" } : Jvm.MethodName) prog_14_method_75_code (3 : Nat) (Option.some Jvm.ClassFile.FieldType.int)) ∈ lw_all := lw_g (lw_at lw_m16 88 rfl) rfl
theorem q3945 : (Jvm.Cond.methodLink "LineordersModel" (421 : Nat) ({ cls := "LineordersModel", name := "bringHeld", desc := "()I" } : Jvm.MethodName)) ∈ lw_all := lw_g (lw_at lw_m16 89 rfl) rfl
theorem q3947 : (Jvm.Cond.instanceMethod ({ cls := "LineordersModel", name := "bringHeld", desc := "()I" } : Jvm.MethodName)) ∈ lw_all := lw_g (lw_at lw_m16 91 rfl) rfl
theorem q3948 : (Jvm.Cond.code ({ cls := "LineordersModel", name := "bringHeld", desc := "()I" } : Jvm.MethodName) prog_14_method_76_code (2 : Nat) (Option.some Jvm.ClassFile.FieldType.int)) ∈ lw_all := lw_g (lw_at lw_m16 92 rfl) rfl
theorem q3949 : (Jvm.Cond.methodLink "LineordersModel" (424 : Nat) ({ cls := "LineordersModel", name := "exchange", desc := "()I" } : Jvm.MethodName)) ∈ lw_all := lw_g (lw_at lw_m16 93 rfl) rfl
theorem q3951 : (Jvm.Cond.instanceMethod ({ cls := "LineordersModel", name := "exchange", desc := "()I" } : Jvm.MethodName)) ∈ lw_all := lw_g (lw_at lw_m16 95 rfl) rfl
theorem q3952 : (Jvm.Cond.code ({ cls := "LineordersModel", name := "exchange", desc := "()I" } : Jvm.MethodName) prog_14_method_77_code (3 : Nat) (Option.some Jvm.ClassFile.FieldType.int)) ∈ lw_all := lw_g (lw_at lw_m16 96 rfl) rfl
theorem q3953 : (Jvm.Cond.methodLink "LineordersModel" (427 : Nat) ({ cls := "LineordersModel", name := "otherAct", desc := "(I)I" } : Jvm.MethodName)) ∈ lw_all := lw_g (lw_at lw_m16 97 rfl) rfl
theorem q3955 : (Jvm.Cond.instanceMethod ({ cls := "LineordersModel", name := "otherAct", desc := "(I)I" } : Jvm.MethodName)) ∈ lw_all := lw_g (lw_at lw_m16 99 rfl) rfl
theorem q3956 : (Jvm.Cond.code ({ cls := "LineordersModel", name := "otherAct", desc := "(I)I" } : Jvm.MethodName) prog_14_method_94_code (3 : Nat) (Option.some Jvm.ClassFile.FieldType.int)) ∈ lw_all := lw_g (lw_at lw_m16 100 rfl) rfl
theorem q3957 : (Jvm.Cond.methodLink "LineordersModel" (430 : Nat) ({ cls := "LineordersModel", name := "shift", desc := "(IZ)I" } : Jvm.MethodName)) ∈ lw_all := lw_g (lw_at lw_m16 101 rfl) rfl
theorem q3959 : (Jvm.Cond.instanceMethod ({ cls := "LineordersModel", name := "shift", desc := "(IZ)I" } : Jvm.MethodName)) ∈ lw_all := lw_g (lw_at lw_m16 103 rfl) rfl
theorem q3960 : (Jvm.Cond.code ({ cls := "LineordersModel", name := "shift", desc := "(IZ)I" } : Jvm.MethodName) prog_14_method_80_code (4 : Nat) (Option.some Jvm.ClassFile.FieldType.int)) ∈ lw_all := lw_g (lw_at lw_m16 104 rfl) rfl
theorem q3961 : (Jvm.Cond.methodLink "LineordersModel" (369 : Nat) ({ cls := "LineordersModel", name := "moveLeft", desc := "(II)V" } : Jvm.MethodName)) ∈ lw_all := lw_g (lw_at lw_m16 105 rfl) rfl
theorem q3963 : (Jvm.Cond.instanceMethod ({ cls := "LineordersModel", name := "moveLeft", desc := "(II)V" } : Jvm.MethodName)) ∈ lw_all := lw_g (lw_at lw_m16 107 rfl) rfl
theorem q3964 : (Jvm.Cond.code ({ cls := "LineordersModel", name := "moveLeft", desc := "(II)V" } : Jvm.MethodName) prog_14_method_79_code (4 : Nat) (Option.none : Option Jvm.ClassFile.FieldType)) ∈ lw_all := lw_g (lw_at lw_m16 108 rfl) rfl
theorem q3965 : (Jvm.Cond.methodLink "LineordersModel" (372 : Nat) ({ cls := "LineordersModel", name := "moveRight", desc := "(II)Z" } : Jvm.MethodName)) ∈ lw_all := lw_g (lw_at lw_m16 109 rfl) rfl
theorem q3967 : (Jvm.Cond.instanceMethod ({ cls := "LineordersModel", name := "moveRight", desc := "(II)Z" } : Jvm.MethodName)) ∈ lw_all := lw_g (lw_at lw_m16 111 rfl) rfl
theorem q3968 : (Jvm.Cond.code ({ cls := "LineordersModel", name := "moveRight", desc := "(II)Z" } : Jvm.MethodName) prog_14_method_78_code (4 : Nat) (Option.some Jvm.ClassFile.FieldType.boolean)) ∈ lw_all := lw_g (lw_at lw_m16 112 rfl) rfl
theorem q3969 : (Jvm.Cond.methodLink "LineordersModel" (434 : Nat) ({ cls := "LineordersModel", name := "sort", desc := "(IZ)I" } : Jvm.MethodName)) ∈ lw_all := lw_g (lw_at lw_m16 113 rfl) rfl
theorem q3971 : (Jvm.Cond.instanceMethod ({ cls := "LineordersModel", name := "sort", desc := "(IZ)I" } : Jvm.MethodName)) ∈ lw_all := lw_g (lw_at lw_m16 115 rfl) rfl
theorem q3972 : (Jvm.Cond.code ({ cls := "LineordersModel", name := "sort", desc := "(IZ)I" } : Jvm.MethodName) prog_14_method_82_code (6 : Nat) (Option.some Jvm.ClassFile.FieldType.int)) ∈ lw_all := lw_g (lw_at lw_m16 116 rfl) rfl
theorem q3973 : (Jvm.Cond.methodLink "LineordersModel" (375 : Nat) ({ cls := "LineordersModel", name := "compare", desc := "(III)I" } : Jvm.MethodName)) ∈ lw_all := lw_g (lw_at lw_m16 117 rfl) rfl
theorem q3975 : (Jvm.Cond.instanceMethod ({ cls := "LineordersModel", name := "compare", desc := "(III)I" } : Jvm.MethodName)) ∈ lw_all := lw_g (lw_at lw_m16 119 rfl) rfl
theorem q3976 : (Jvm.Cond.code ({ cls := "LineordersModel", name := "compare", desc := "(III)I" } : Jvm.MethodName) prog_14_method_81_code (7 : Nat) (Option.some Jvm.ClassFile.FieldType.int)) ∈ lw_all := lw_g (lw_at lw_m16 120 rfl) rfl
theorem q3977 : (Jvm.Cond.methodLink "LineordersModel" (437 : Nat) ({ cls := "LineordersModel", name := "move", desc := "(I)I" } : Jvm.MethodName)) ∈ lw_all := lw_g (lw_at lw_m16 121 rfl) rfl
theorem q3979 : (Jvm.Cond.instanceMethod ({ cls := "LineordersModel", name := "move", desc := "(I)I" } : Jvm.MethodName)) ∈ lw_all := lw_g (lw_at lw_m16 123 rfl) rfl
theorem q3980 : (Jvm.Cond.code ({ cls := "LineordersModel", name := "move", desc := "(I)I" } : Jvm.MethodName) prog_14_method_83_code (6 : Nat) (Option.some Jvm.ClassFile.FieldType.int)) ∈ lw_all := lw_g (lw_at lw_m16 124 rfl) rfl
theorem q3981 : (Jvm.Cond.methodLink "LineordersModel" (440 : Nat) ({ cls := "LineordersModel", name := "copyTo", desc := "(I)I" } : Jvm.MethodName)) ∈ lw_all := lw_g (lw_at lw_m16 125 rfl) rfl
theorem q3983 : (Jvm.Cond.instanceMethod ({ cls := "LineordersModel", name := "copyTo", desc := "(I)I" } : Jvm.MethodName)) ∈ lw_all := lw_g (lw_at lw_m16 127 rfl) rfl
theorem q3984 : (Jvm.Cond.code ({ cls := "LineordersModel", name := "copyTo", desc := "(I)I" } : Jvm.MethodName) prog_14_method_84_code (5 : Nat) (Option.some Jvm.ClassFile.FieldType.int)) ∈ lw_all := lw_g (lw_at lw_m16 128 rfl) rfl
theorem q3985 : (Jvm.Cond.methodLink "LineordersModel" (443 : Nat) ({ cls := "LineordersModel", name := "replaceAll", desc := "(I)I" } : Jvm.MethodName)) ∈ lw_all := lw_g (lw_at lw_m16 129 rfl) rfl
theorem q3987 : (Jvm.Cond.instanceMethod ({ cls := "LineordersModel", name := "replaceAll", desc := "(I)I" } : Jvm.MethodName)) ∈ lw_all := lw_g (lw_at lw_m16 131 rfl) rfl
theorem q3988 : (Jvm.Cond.code ({ cls := "LineordersModel", name := "replaceAll", desc := "(I)I" } : Jvm.MethodName) prog_14_method_88_code (3 : Nat) (Option.some Jvm.ClassFile.FieldType.int)) ∈ lw_all := lw_g (lw_at lw_m16 132 rfl) rfl
theorem q3989 : (Jvm.Cond.methodLink "LineordersModel" (388 : Nat) ({ cls := "LineordersModel", name := "replaces", desc := "(II)Z" } : Jvm.MethodName)) ∈ lw_all := lw_g (lw_at lw_m16 133 rfl) rfl
theorem q3991 : (Jvm.Cond.instanceMethod ({ cls := "LineordersModel", name := "replaces", desc := "(II)Z" } : Jvm.MethodName)) ∈ lw_all := lw_g (lw_at lw_m16 135 rfl) rfl
theorem q3992 : (Jvm.Cond.code ({ cls := "LineordersModel", name := "replaces", desc := "(II)Z" } : Jvm.MethodName) prog_14_method_86_code (11 : Nat) (Option.some Jvm.ClassFile.FieldType.boolean)) ∈ lw_all := lw_g (lw_at lw_m16 136 rfl) rfl
theorem q3993 : (Jvm.Cond.methodLink "LineordersModel" (379 : Nat) ({ cls := "LineordersModel", name := "makesPut", desc := "(II)V" } : Jvm.MethodName)) ∈ lw_all := lw_g (lw_at lw_m16 137 rfl) rfl
theorem q3995 : (Jvm.Cond.instanceMethod ({ cls := "LineordersModel", name := "makesPut", desc := "(II)V" } : Jvm.MethodName)) ∈ lw_all := lw_g (lw_at lw_m16 139 rfl) rfl
theorem q3996 : (Jvm.Cond.code ({ cls := "LineordersModel", name := "makesPut", desc := "(II)V" } : Jvm.MethodName) prog_14_method_85_code (4 : Nat) (Option.none : Option Jvm.ClassFile.FieldType)) ∈ lw_all := lw_g (lw_at lw_m16 140 rfl) rfl
theorem q3997 : (Jvm.Cond.methodLink "LineordersModel" (382 : Nat) ({ cls := "LineordersModel", name := "findsNext", desc := "(I)Z" } : Jvm.MethodName)) ∈ lw_all := lw_g (lw_at lw_m16 141 rfl) rfl
theorem q3999 : (Jvm.Cond.instanceMethod ({ cls := "LineordersModel", name := "findsNext", desc := "(I)Z" } : Jvm.MethodName)) ∈ lw_all := lw_g (lw_at lw_m16 143 rfl) rfl
theorem q4000 : (Jvm.Cond.code ({ cls := "LineordersModel", name := "findsNext", desc := "(I)Z" } : Jvm.MethodName) prog_14_method_59_code (3 : Nat) (Option.some Jvm.ClassFile.FieldType.boolean)) ∈ lw_all := lw_g (lw_at lw_m16 144 rfl) rfl
theorem q4001 : (Jvm.Cond.methodLink "LineordersModel" (446 : Nat) ({ cls := "LineordersModel", name := "turnAll", desc := "(I)I" } : Jvm.MethodName)) ∈ lw_all := lw_g (lw_at lw_m16 145 rfl) rfl
theorem q4003 : (Jvm.Cond.instanceMethod ({ cls := "LineordersModel", name := "turnAll", desc := "(I)I" } : Jvm.MethodName)) ∈ lw_all := lw_g (lw_at lw_m16 147 rfl) rfl
theorem q4004 : (Jvm.Cond.code ({ cls := "LineordersModel", name := "turnAll", desc := "(I)I" } : Jvm.MethodName) prog_14_method_89_code (3 : Nat) (Option.some Jvm.ClassFile.FieldType.int)) ∈ lw_all := lw_g (lw_at lw_m16 148 rfl) rfl
theorem q4005 : (Jvm.Cond.methodLink "LineordersModel" (391 : Nat) ({ cls := "LineordersModel", name := "turns", desc := "(II)V" } : Jvm.MethodName)) ∈ lw_all := lw_g (lw_at lw_m16 149 rfl) rfl
theorem q4007 : (Jvm.Cond.instanceMethod ({ cls := "LineordersModel", name := "turns", desc := "(II)V" } : Jvm.MethodName)) ∈ lw_all := lw_g (lw_at lw_m16 151 rfl) rfl
theorem q4008 : (Jvm.Cond.code ({ cls := "LineordersModel", name := "turns", desc := "(II)V" } : Jvm.MethodName) prog_14_method_87_code (7 : Nat) (Option.none : Option Jvm.ClassFile.FieldType)) ∈ lw_all := lw_g (lw_at lw_m16 152 rfl) rfl
theorem q4009 : (Jvm.Cond.methodLink "LineordersModel" (449 : Nat) ({ cls := "LineordersModel", name := "readFile", desc := "(I)I" } : Jvm.MethodName)) ∈ lw_all := lw_g (lw_at lw_m16 153 rfl) rfl
theorem q4011 : (Jvm.Cond.instanceMethod ({ cls := "LineordersModel", name := "readFile", desc := "(I)I" } : Jvm.MethodName)) ∈ lw_all := lw_g (lw_at lw_m16 155 rfl) rfl
theorem q4012 : (Jvm.Cond.code ({ cls := "LineordersModel", name := "readFile", desc := "(I)I" } : Jvm.MethodName) prog_14_method_91_code (3 : Nat) (Option.some Jvm.ClassFile.FieldType.int)) ∈ lw_all := lw_g (lw_at lw_m16 156 rfl) rfl
theorem q4013 : (Jvm.Cond.methodLink "LineordersModel" (394 : Nat) ({ cls := "LineordersModel", name := "fileRow", desc := "(II)I" } : Jvm.MethodName)) ∈ lw_all := lw_g (lw_at lw_m16 157 rfl) rfl
theorem q4014 : (Jvm.Cond.static ({ cls := "LineordersModel", name := "fileRow", desc := "(II)I" } : Jvm.MethodName)) ∈ lw_all := lw_g (lw_at lw_m16 158 rfl) rfl
theorem q4015 : (Jvm.Cond.code ({ cls := "LineordersModel", name := "fileRow", desc := "(II)I" } : Jvm.MethodName) prog_14_method_90_code (2 : Nat) (Option.some Jvm.ClassFile.FieldType.int)) ∈ lw_all := lw_g (lw_at lw_m16 159 rfl) rfl
theorem q4016 : (Jvm.Cond.methodLink "LineordersModel" (452 : Nat) ({ cls := "LineordersModel", name := "writeFile", desc := "(I)I" } : Jvm.MethodName)) ∈ lw_all := lw_g (lw_at lw_m16 160 rfl) rfl
theorem q4018 : (Jvm.Cond.instanceMethod ({ cls := "LineordersModel", name := "writeFile", desc := "(I)I" } : Jvm.MethodName)) ∈ lw_all := lw_g (lw_at lw_m16 162 rfl) rfl
theorem q4019 : (Jvm.Cond.code ({ cls := "LineordersModel", name := "writeFile", desc := "(I)I" } : Jvm.MethodName) prog_14_method_92_code (3 : Nat) (Option.some Jvm.ClassFile.FieldType.int)) ∈ lw_all := lw_g (lw_at lw_m16 163 rfl) rfl
theorem q4020 : (Jvm.Cond.methodLink "LineordersModel" (527 : Nat) ({ cls := "LineordersModel", name := "comeBack", desc := "()V" } : Jvm.MethodName)) ∈ lw_all := lw_g (lw_at lw_m16 164 rfl) rfl
theorem q4022 : (Jvm.Cond.instanceMethod ({ cls := "LineordersModel", name := "comeBack", desc := "()V" } : Jvm.MethodName)) ∈ lw_all := lw_g (lw_at lw_m16 166 rfl) rfl
theorem q4023 : (Jvm.Cond.code ({ cls := "LineordersModel", name := "comeBack", desc := "()V" } : Jvm.MethodName) prog_14_method_99_code (2 : Nat) (Option.none : Option Jvm.ClassFile.FieldType)) ∈ lw_all := lw_g (lw_at lw_m16 167 rfl) rfl
theorem q4024 : (Jvm.Cond.methodLink "LineordersModel" (530 : Nat) ({ cls := "LineordersModel", name := "isDeed", desc := "(I)Z" } : Jvm.MethodName)) ∈ lw_all := lw_g (lw_at lw_m16 168 rfl) rfl
theorem q4026 : (Jvm.Cond.instanceMethod ({ cls := "LineordersModel", name := "isDeed", desc := "(I)Z" } : Jvm.MethodName)) ∈ lw_all := lw_g (lw_at lw_m16 170 rfl) rfl
theorem q4027 : (Jvm.Cond.code ({ cls := "LineordersModel", name := "isDeed", desc := "(I)Z" } : Jvm.MethodName) prog_14_method_107_code (3 : Nat) (Option.some Jvm.ClassFile.FieldType.boolean)) ∈ lw_all := lw_g (lw_at lw_m16 171 rfl) rfl
theorem q4028 : (Jvm.Cond.methodLink "LineordersModel" (533 : Nat) ({ cls := "LineordersModel", name := "noteDeed", desc := "()V" } : Jvm.MethodName)) ∈ lw_all := lw_g (lw_at lw_m16 172 rfl) rfl
theorem q4030 : (Jvm.Cond.instanceMethod ({ cls := "LineordersModel", name := "noteDeed", desc := "()V" } : Jvm.MethodName)) ∈ lw_all := lw_g (lw_at lw_m16 174 rfl) rfl
theorem q4031 : (Jvm.Cond.code ({ cls := "LineordersModel", name := "noteDeed", desc := "()V" } : Jvm.MethodName) prog_14_method_100_code (3 : Nat) (Option.none : Option Jvm.ClassFile.FieldType)) ∈ lw_all := lw_g (lw_at lw_m16 175 rfl) rfl
theorem q4033 : (Jvm.Cond.instanceMethod ({ cls := "LineordersModel", name := "keep", desc := "(I)I" } : Jvm.MethodName)) ∈ lw_all := lw_g (lw_at lw_m16 177 rfl) rfl
theorem q4034 : (Jvm.Cond.selects "LineordersModel" ({ cls := "LineordersModel", name := "keep", desc := "(I)I" } : Jvm.MethodName) ({ cls := "LineordersModel", name := "keep", desc := "(I)I" } : Jvm.MethodName)) ∈ lw_all := lw_g (lw_at lw_m16 178 rfl) rfl
theorem q4035 : (Jvm.Cond.code ({ cls := "LineordersModel", name := "keep", desc := "(I)I" } : Jvm.MethodName) prog_14_method_153_code (3 : Nat) (Option.some Jvm.ClassFile.FieldType.int)) ∈ lw_all := lw_g (lw_at lw_m16 179 rfl) rfl
theorem q4036 : (Jvm.Cond.methodLink "LineordersModel" (691 : Nat) ({ cls := "LineordersModel", name := "isFou\x72", desc := "(I)Z" } : Jvm.MethodName)) ∈ lw_all := lw_g (lw_at lw_m16 180 rfl) rfl
theorem q4037 : (Jvm.Cond.static ({ cls := "LineordersModel", name := "isFou\x72", desc := "(I)Z" } : Jvm.MethodName)) ∈ lw_all := lw_g (lw_at lw_m16 181 rfl) rfl
theorem q4038 : (Jvm.Cond.code ({ cls := "LineordersModel", name := "isFou\x72", desc := "(I)Z" } : Jvm.MethodName) prog_14_method_152_code (1 : Nat) (Option.some Jvm.ClassFile.FieldType.boolean)) ∈ lw_all := lw_g (lw_at lw_m16 182 rfl) rfl
theorem q4040 : (Jvm.Cond.instanceMethod ({ cls := "LineordersModel", name := "play", desc := "(I)I" } : Jvm.MethodName)) ∈ lw_all := lw_g (lw_at lw_m16 184 rfl) rfl
theorem q4041 : (Jvm.Cond.selects "LineordersModel" ({ cls := "LineordersModel", name := "play", desc := "(I)I" } : Jvm.MethodName) ({ cls := "LineordersModel", name := "play", desc := "(I)I" } : Jvm.MethodName)) ∈ lw_all := lw_g (lw_at lw_m16 185 rfl) rfl
theorem q4042 : (Jvm.Cond.code ({ cls := "LineordersModel", name := "play", desc := "(I)I" } : Jvm.MethodName) prog_14_method_154_code (2 : Nat) (Option.some Jvm.ClassFile.FieldType.int)) ∈ lw_all := lw_g (lw_at lw_m16 186 rfl) rfl
theorem q4043 : (Jvm.Cond.methodLink "LineordersModel" (694 : Nat) ({ cls := "LineordersModel", name := "loadScript", desc := "(I)V" } : Jvm.MethodName)) ∈ lw_all := lw_g (lw_at lw_m16 187 rfl) rfl
theorem q4045 : (Jvm.Cond.instanceMethod ({ cls := "LineordersModel", name := "loadScript", desc := "(I)V" } : Jvm.MethodName)) ∈ lw_all := lw_g (lw_at lw_m16 189 rfl) rfl
theorem q4046 : (Jvm.Cond.code ({ cls := "LineordersModel", name := "loadScript", desc := "(I)V" } : Jvm.MethodName) prog_14_method_20_code (3 : Nat) (Option.none : Option Jvm.ClassFile.FieldType)) ∈ lw_all := lw_g (lw_at lw_m16 190 rfl) rfl
theorem q4048 : (Jvm.Cond.instanceMethod ({ cls := "LineordersModel", name := "stream", desc := "(I)I" } : Jvm.MethodName)) ∈ lw_all := lw_g (lw_at lw_m16 192 rfl) rfl
theorem q4049 : (Jvm.Cond.selects "LineordersModel" ({ cls := "LineordersModel", name := "stream", desc := "(I)I" } : Jvm.MethodName) ({ cls := "LineordersModel", name := "stream", desc := "(I)I" } : Jvm.MethodName)) ∈ lw_all := lw_g (lw_at lw_m16 193 rfl) rfl
theorem q4050 : (Jvm.Cond.code ({ cls := "LineordersModel", name := "stream", desc := "(I)I" } : Jvm.MethodName) prog_14_method_155_code (2 : Nat) (Option.some Jvm.ClassFile.FieldType.int)) ∈ lw_all := lw_g (lw_at lw_m16 194 rfl) rfl
theorem q4051 : (Jvm.Cond.methodLink "LineordersModel" (697 : Nat) ({ cls := "LineordersModel", name := "playLines", desc := "()I" } : Jvm.MethodName)) ∈ lw_all := lw_g (lw_at lw_m16 195 rfl) rfl
theorem q4053 : (Jvm.Cond.instanceMethod ({ cls := "LineordersModel", name := "playLines", desc := "()I" } : Jvm.MethodName)) ∈ lw_all := lw_g (lw_at lw_m16 197 rfl) rfl
theorem q4054 : (Jvm.Cond.code ({ cls := "LineordersModel", name := "playLines", desc := "()I" } : Jvm.MethodName) prog_14_method_146_code (2 : Nat) (Option.some Jvm.ClassFile.FieldType.int)) ∈ lw_all := lw_g (lw_at lw_m16 198 rfl) rfl
theorem q4055 : (Jvm.Cond.methodLink "LineordersModel" (670 : Nat) ({ cls := "LineordersModel", name := "emptyFiles", desc := "()V" } : Jvm.MethodName)) ∈ lw_all := lw_g (lw_at lw_m16 199 rfl) rfl
theorem q4057 : (Jvm.Cond.instanceMethod ({ cls := "LineordersModel", name := "emptyFiles", desc := "()V" } : Jvm.MethodName)) ∈ lw_all := lw_g (lw_at lw_m16 201 rfl) rfl
theorem q4058 : (Jvm.Cond.code ({ cls := "LineordersModel", name := "emptyFiles", desc := "()V" } : Jvm.MethodName) prog_14_method_144_code (3 : Nat) (Option.none : Option Jvm.ClassFile.FieldType)) ∈ lw_all := lw_g (lw_at lw_m16 202 rfl) rfl
theorem q4059 : (Jvm.Cond.methodLink "LineordersModel" (667 : Nat) ({ cls := "LineordersModel", name := "emptyParts", desc := "(I)V" } : Jvm.MethodName)) ∈ lw_all := lw_g (lw_at lw_m16 203 rfl) rfl
theorem q4061 : (Jvm.Cond.instanceMethod ({ cls := "LineordersModel", name := "emptyParts", desc := "(I)V" } : Jvm.MethodName)) ∈ lw_all := lw_g (lw_at lw_m16 205 rfl) rfl
theorem q4062 : (Jvm.Cond.code ({ cls := "LineordersModel", name := "emptyParts", desc := "(I)V" } : Jvm.MethodName) prog_14_method_143_code (4 : Nat) (Option.none : Option Jvm.ClassFile.FieldType)) ∈ lw_all := lw_g (lw_at lw_m16 206 rfl) rfl
theorem q4063 : (Jvm.Cond.methodLink "LineordersModel" (664 : Nat) ({ cls := "LineordersModel", name := "emptyInne\x72", desc := "(I)V" } : Jvm.MethodName)) ∈ lw_all := lw_g (lw_at lw_m16 207 rfl) rfl
theorem q4065 : (Jvm.Cond.instanceMethod ({ cls := "LineordersModel", name := "emptyInne\x72", desc := "(I)V" } : Jvm.MethodName)) ∈ lw_all := lw_g (lw_at lw_m16 209 rfl) rfl
theorem q4066 : (Jvm.Cond.code ({ cls := "LineordersModel", name := "emptyInne\x72", desc := "(I)V" } : Jvm.MethodName) prog_14_method_142_code (2 : Nat) (Option.none : Option Jvm.ClassFile.FieldType)) ∈ lw_all := lw_g (lw_at lw_m16 210 rfl) rfl
theorem q4067 : (Jvm.Cond.methodLink "LineordersModel" (661 : Nat) ({ cls := "LineordersModel", name := "emptyFile", desc := "(I)V" } : Jvm.MethodName)) ∈ lw_all := lw_g (lw_at lw_m16 211 rfl) rfl
theorem q4069 : (Jvm.Cond.instanceMethod ({ cls := "LineordersModel", name := "emptyFile", desc := "(I)V" } : Jvm.MethodName)) ∈ lw_all := lw_g (lw_at lw_m16 213 rfl) rfl
theorem q4070 : (Jvm.Cond.code ({ cls := "LineordersModel", name := "emptyFile", desc := "(I)V" } : Jvm.MethodName) prog_14_method_141_code (2 : Nat) (Option.none : Option Jvm.ClassFile.FieldType)) ∈ lw_all := lw_g (lw_at lw_m16 214 rfl) rfl
theorem q4071 : (Jvm.Cond.methodLink "LineordersModel" (649 : Nat) ({ cls := "LineordersModel", name := "takeNext", desc := "()V" } : Jvm.MethodName)) ∈ lw_all := lw_g (lw_at lw_m16 215 rfl) rfl
theorem q4073 : (Jvm.Cond.instanceMethod ({ cls := "LineordersModel", name := "takeNext", desc := "()V" } : Jvm.MethodName)) ∈ lw_all := lw_g (lw_at lw_m16 217 rfl) rfl
theorem q4074 : (Jvm.Cond.code ({ cls := "LineordersModel", name := "takeNext", desc := "()V" } : Jvm.MethodName) prog_14_method_112_code (1 : Nat) (Option.none : Option Jvm.ClassFile.FieldType)) ∈ lw_all := lw_g (lw_at lw_m16 218 rfl) rfl
theorem q4075 : (Jvm.Cond.methodLink "LineordersModel" (673 : Nat) ({ cls := "LineordersModel", name := "workLine", desc := "()I" } : Jvm.MethodName)) ∈ lw_all := lw_g (lw_at lw_m16 219 rfl) rfl
theorem q4077 : (Jvm.Cond.instanceMethod ({ cls := "LineordersModel", name := "workLine", desc := "()I" } : Jvm.MethodName)) ∈ lw_all := lw_g (lw_at lw_m16 221 rfl) rfl
theorem q4078 : (Jvm.Cond.code ({ cls := "LineordersModel", name := "workLine", desc := "()I" } : Jvm.MethodName) prog_14_method_140_code (3 : Nat) (Option.some Jvm.ClassFile.FieldType.int)) ∈ lw_all := lw_g (lw_at lw_m16 222 rfl) rfl
theorem q4079 : (Jvm.Cond.methodLink "LineordersModel" (658 : Nat) ({ cls := "LineordersModel", name := "workOrde\x72", desc := "(I)I" } : Jvm.MethodName)) ∈ lw_all := lw_g (lw_at lw_m16 223 rfl) rfl
theorem q4081 : (Jvm.Cond.instanceMethod ({ cls := "LineordersModel", name := "workOrde\x72", desc := "(I)I" } : Jvm.MethodName)) ∈ lw_all := lw_g (lw_at lw_m16 225 rfl) rfl
theorem q4082 : (Jvm.Cond.code ({ cls := "LineordersModel", name := "workOrde\x72", desc := "(I)I" } : Jvm.MethodName) prog_14_method_139_code (6 : Nat) (Option.some Jvm.ClassFile.FieldType.int)) ∈ lw_all := lw_g (lw_at lw_m16 226 rfl) rfl
theorem q4083 : (Jvm.Cond.methodLink "LineordersModel" (625 : Nat) ({ cls := "LineordersModel", name := "comesTo", desc := "(I)I" } : Jvm.MethodName)) ∈ lw_all := lw_g (lw_at lw_m16 227 rfl) rfl
theorem q4085 : (Jvm.Cond.instanceMethod ({ cls := "LineordersModel", name := "comesTo", desc := "(I)I" } : Jvm.MethodName)) ∈ lw_all := lw_g (lw_at lw_m16 229 rfl) rfl
theorem q4086 : (Jvm.Cond.code ({ cls := "LineordersModel", name := "comesTo", desc := "(I)I" } : Jvm.MethodName) prog_14_method_133_code (2 : Nat) (Option.some Jvm.ClassFile.FieldType.int)) ∈ lw_all := lw_g (lw_at lw_m16 230 rfl) rfl
theorem q4087 : (Jvm.Cond.methodLink "LineordersModel" (621 : Nat) ({ cls := "LineordersModel", name := "isBarred", desc := "()Z" } : Jvm.MethodName)) ∈ lw_all := lw_g (lw_at lw_m16 231 rfl) rfl
theorem q4089 : (Jvm.Cond.instanceMethod ({ cls := "LineordersModel", name := "isBarred", desc := "()Z" } : Jvm.MethodName)) ∈ lw_all := lw_g (lw_at lw_m16 233 rfl) rfl
theorem q4090 : (Jvm.Cond.code ({ cls := "LineordersModel", name := "isBarred", desc := "()Z" } : Jvm.MethodName) prog_14_method_118_code (3 : Nat) (Option.some Jvm.ClassFile.FieldType.boolean)) ∈ lw_all := lw_g (lw_at lw_m16 234 rfl) rfl
theorem q4091 : (Jvm.Cond.methodLink "LineordersModel" (572 : Nat) ({ cls := "LineordersModel", name := "isBarredAddress", desc := "(I)Z" } : Jvm.MethodName)) ∈ lw_all := lw_g (lw_at lw_m16 235 rfl) rfl
theorem q4093 : (Jvm.Cond.instanceMethod ({ cls := "LineordersModel", name := "isBarredAddress", desc := "(I)Z" } : Jvm.MethodName)) ∈ lw_all := lw_g (lw_at lw_m16 237 rfl) rfl
theorem q4094 : (Jvm.Cond.code ({ cls := "LineordersModel", name := "isBarredAddress", desc := "(I)Z" } : Jvm.MethodName) prog_14_method_117_code (4 : Nat) (Option.some Jvm.ClassFile.FieldType.boolean)) ∈ lw_all := lw_g (lw_at lw_m16 238 rfl) rfl
theorem q4095 : (Jvm.Cond.methodLink "LineordersModel" (566 : Nat) ({ cls := "LineordersModel", name := "isNumeric", desc := "(I)Z" } : Jvm.MethodName)) ∈ lw_all := lw_g (lw_at lw_m16 239 rfl) rfl
theorem q4096 : (Jvm.Cond.static ({ cls := "LineordersModel", name := "isNumeric", desc := "(I)Z" } : Jvm.MethodName)) ∈ lw_all := lw_g (lw_at lw_m17 0 rfl) rfl
theorem q4097 : (Jvm.Cond.code ({ cls := "LineordersModel", name := "isNumeric", desc := "(I)Z" } : Jvm.MethodName) prog_14_method_114_code (1 : Nat) (Option.some Jvm.ClassFile.FieldType.boolean)) ∈ lw_all := lw_g (lw_at lw_m17 1 rfl) rfl
theorem q4098 : (Jvm.Cond.methodLink "LineordersModel" (628 : Nat) ({ cls := "LineordersModel", name := "whereHolds", desc := "(I)Z" } : Jvm.MethodName)) ∈ lw_all := lw_g (lw_at lw_m17 2 rfl) rfl
theorem q4100 : (Jvm.Cond.instanceMethod ({ cls := "LineordersModel", name := "whereHolds", desc := "(I)Z" } : Jvm.MethodName)) ∈ lw_all := lw_g (lw_at lw_m17 4 rfl) rfl
theorem q4101 : (Jvm.Cond.code ({ cls := "LineordersModel", name := "whereHolds", desc := "(I)Z" } : Jvm.MethodName) prog_14_method_120_code (2 : Nat) (Option.some Jvm.ClassFile.FieldType.boolean)) ∈ lw_all := lw_g (lw_at lw_m17 5 rfl) rfl
theorem q4102 : (Jvm.Cond.methodLink "LineordersModel" (575 : Nat) ({ cls := "LineordersModel", name := "holds", desc := "(I)Z" } : Jvm.MethodName)) ∈ lw_all := lw_g (lw_at lw_m17 6 rfl) rfl
theorem q4104 : (Jvm.Cond.instanceMethod ({ cls := "LineordersModel", name := "holds", desc := "(I)Z" } : Jvm.MethodName)) ∈ lw_all := lw_g (lw_at lw_m17 8 rfl) rfl
theorem q4105 : (Jvm.Cond.code ({ cls := "LineordersModel", name := "holds", desc := "(I)Z" } : Jvm.MethodName) prog_14_method_116_code (3 : Nat) (Option.some Jvm.ClassFile.FieldType.boolean)) ∈ lw_all := lw_g (lw_at lw_m17 9 rfl) rfl
theorem q4106 : (Jvm.Cond.methodLink "LineordersModel" (569 : Nat) ({ cls := "LineordersModel", name := "numericAt", desc := "(I)I" } : Jvm.MethodName)) ∈ lw_all := lw_g (lw_at lw_m17 10 rfl) rfl
theorem q4108 : (Jvm.Cond.instanceMethod ({ cls := "LineordersModel", name := "numericAt", desc := "(I)I" } : Jvm.MethodName)) ∈ lw_all := lw_g (lw_at lw_m17 12 rfl) rfl
theorem q4109 : (Jvm.Cond.code ({ cls := "LineordersModel", name := "numericAt", desc := "(I)I" } : Jvm.MethodName) prog_14_method_115_code (4 : Nat) (Option.some Jvm.ClassFile.FieldType.int)) ∈ lw_all := lw_g (lw_at lw_m17 13 rfl) rfl
theorem q4110 : (Jvm.Cond.methodLink "LineordersModel" (578 : Nat) ({ cls := "LineordersModel", name := "runHolds", desc := "(I)Z" } : Jvm.MethodName)) ∈ lw_all := lw_g (lw_at lw_m17 14 rfl) rfl
theorem q4112 : (Jvm.Cond.instanceMethod ({ cls := "LineordersModel", name := "runHolds", desc := "(I)Z" } : Jvm.MethodName)) ∈ lw_all := lw_g (lw_at lw_m17 16 rfl) rfl
theorem q4113 : (Jvm.Cond.code ({ cls := "LineordersModel", name := "runHolds", desc := "(I)Z" } : Jvm.MethodName) prog_14_method_119_code (5 : Nat) (Option.some Jvm.ClassFile.FieldType.boolean)) ∈ lw_all := lw_g (lw_at lw_m17 17 rfl) rfl
theorem q4114 : (Jvm.Cond.methodLink "LineordersModel" (652 : Nat) ({ cls := "LineordersModel", name := "workStee\x72", desc := "(I)I" } : Jvm.MethodName)) ∈ lw_all := lw_g (lw_at lw_m17 18 rfl) rfl
theorem q4116 : (Jvm.Cond.instanceMethod ({ cls := "LineordersModel", name := "workStee\x72", desc := "(I)I" } : Jvm.MethodName)) ∈ lw_all := lw_g (lw_at lw_m17 20 rfl) rfl
theorem q4117 : (Jvm.Cond.code ({ cls := "LineordersModel", name := "workStee\x72", desc := "(I)I" } : Jvm.MethodName) prog_14_method_138_code (4 : Nat) (Option.some Jvm.ClassFile.FieldType.int)) ∈ lw_all := lw_g (lw_at lw_m17 21 rfl) rfl
theorem q4118 : (Jvm.Cond.methodLink "LineordersModel" (640 : Nat) ({ cls := "LineordersModel", name := "putWork", desc := "()I" } : Jvm.MethodName)) ∈ lw_all := lw_g (lw_at lw_m17 22 rfl) rfl
theorem q4120 : (Jvm.Cond.instanceMethod ({ cls := "LineordersModel", name := "putWork", desc := "()I" } : Jvm.MethodName)) ∈ lw_all := lw_g (lw_at lw_m17 24 rfl) rfl
theorem q4121 : (Jvm.Cond.code ({ cls := "LineordersModel", name := "putWork", desc := "()I" } : Jvm.MethodName) prog_14_method_113_code (3 : Nat) (Option.some Jvm.ClassFile.FieldType.int)) ∈ lw_all := lw_g (lw_at lw_m17 25 rfl) rfl
theorem q4122 : (Jvm.Cond.methodLink "LineordersModel" (539 : Nat) ({ cls := "LineordersModel", name := "put", desc := "(II)I" } : Jvm.MethodName)) ∈ lw_all := lw_g (lw_at lw_m17 26 rfl) rfl
theorem q4124 : (Jvm.Cond.instanceMethod ({ cls := "LineordersModel", name := "put", desc := "(II)I" } : Jvm.MethodName)) ∈ lw_all := lw_g (lw_at lw_m17 28 rfl) rfl
theorem q4125 : (Jvm.Cond.code ({ cls := "LineordersModel", name := "put", desc := "(II)I" } : Jvm.MethodName) prog_14_method_109_code (3 : Nat) (Option.some Jvm.ClassFile.FieldType.int)) ∈ lw_all := lw_g (lw_at lw_m17 29 rfl) rfl
theorem q4126 : (Jvm.Cond.methodLink "LineordersModel" (560 : Nat) ({ cls := "LineordersModel", name := "putNew", desc := "(I)I" } : Jvm.MethodName)) ∈ lw_all := lw_g (lw_at lw_m17 30 rfl) rfl
theorem q4128 : (Jvm.Cond.instanceMethod ({ cls := "LineordersModel", name := "putNew", desc := "(I)I" } : Jvm.MethodName)) ∈ lw_all := lw_g (lw_at lw_m17 32 rfl) rfl
theorem q4129 : (Jvm.Cond.code ({ cls := "LineordersModel", name := "putNew", desc := "(I)I" } : Jvm.MethodName) prog_14_method_110_code (3 : Nat) (Option.some Jvm.ClassFile.FieldType.int)) ∈ lw_all := lw_g (lw_at lw_m17 33 rfl) rfl
theorem q4130 : (Jvm.Cond.methodLink "LineordersModel" (646 : Nat) ({ cls := "LineordersModel", name := "putRest", desc := "()I" } : Jvm.MethodName)) ∈ lw_all := lw_g (lw_at lw_m17 34 rfl) rfl
theorem q4132 : (Jvm.Cond.instanceMethod ({ cls := "LineordersModel", name := "putRest", desc := "()I" } : Jvm.MethodName)) ∈ lw_all := lw_g (lw_at lw_m17 36 rfl) rfl
theorem q4133 : (Jvm.Cond.code ({ cls := "LineordersModel", name := "putRest", desc := "()I" } : Jvm.MethodName) prog_14_method_137_code (2 : Nat) (Option.some Jvm.ClassFile.FieldType.int)) ∈ lw_all := lw_g (lw_at lw_m17 37 rfl) rfl
theorem q4134 : (Jvm.Cond.methodLink "LineordersModel" (655 : Nat) ({ cls := "LineordersModel", name := "workEach", desc := "(I)I" } : Jvm.MethodName)) ∈ lw_all := lw_g (lw_at lw_m17 38 rfl) rfl
theorem q4136 : (Jvm.Cond.instanceMethod ({ cls := "LineordersModel", name := "workEach", desc := "(I)I" } : Jvm.MethodName)) ∈ lw_all := lw_g (lw_at lw_m17 40 rfl) rfl
theorem q4137 : (Jvm.Cond.code ({ cls := "LineordersModel", name := "workEach", desc := "(I)I" } : Jvm.MethodName) prog_14_method_136_code (4 : Nat) (Option.some Jvm.ClassFile.FieldType.int)) ∈ lw_all := lw_g (lw_at lw_m17 41 rfl) rfl
theorem q4138 : (Jvm.Cond.methodLink "LineordersModel" (637 : Nat) ({ cls := "LineordersModel", name := "workParts", desc := "(I)I" } : Jvm.MethodName)) ∈ lw_all := lw_g (lw_at lw_m17 42 rfl) rfl
theorem q4140 : (Jvm.Cond.instanceMethod ({ cls := "LineordersModel", name := "workParts", desc := "(I)I" } : Jvm.MethodName)) ∈ lw_all := lw_g (lw_at lw_m17 44 rfl) rfl
theorem q4141 : (Jvm.Cond.code ({ cls := "LineordersModel", name := "workParts", desc := "(I)I" } : Jvm.MethodName) prog_14_method_135_code (5 : Nat) (Option.some Jvm.ClassFile.FieldType.int)) ∈ lw_all := lw_g (lw_at lw_m17 45 rfl) rfl
theorem q4142 : (Jvm.Cond.methodLink "LineordersModel" (634 : Nat) ({ cls := "LineordersModel", name := "workInne\x72", desc := "(I)I" } : Jvm.MethodName)) ∈ lw_all := lw_g (lw_at lw_m17 46 rfl) rfl
theorem q4144 : (Jvm.Cond.instanceMethod ({ cls := "LineordersModel", name := "workInne\x72", desc := "(I)I" } : Jvm.MethodName)) ∈ lw_all := lw_g (lw_at lw_m17 48 rfl) rfl
theorem q4145 : (Jvm.Cond.code ({ cls := "LineordersModel", name := "workInne\x72", desc := "(I)I" } : Jvm.MethodName) prog_14_method_134_code (4 : Nat) (Option.some Jvm.ClassFile.FieldType.int)) ∈ lw_all := lw_g (lw_at lw_m17 49 rfl) rfl
theorem q4146 : (Jvm.Cond.methodLink "LineordersModel" (631 : Nat) ({ cls := "LineordersModel", name := "workAct", desc := "(II)I" } : Jvm.MethodName)) ∈ lw_all := lw_g (lw_at lw_m17 50 rfl) rfl
theorem q4148 : (Jvm.Cond.instanceMethod ({ cls := "LineordersModel", name := "workAct", desc := "(II)I" } : Jvm.MethodName)) ∈ lw_all := lw_g (lw_at lw_m17 52 rfl) rfl
theorem q4149 : (Jvm.Cond.code ({ cls := "LineordersModel", name := "workAct", desc := "(II)I" } : Jvm.MethodName) prog_14_method_131_code (4 : Nat) (Option.some Jvm.ClassFile.FieldType.int)) ∈ lw_all := lw_g (lw_at lw_m17 53 rfl) rfl
theorem q4150 : (Jvm.Cond.methodLink "LineordersModel" (587 : Nat) ({ cls := "LineordersModel", name := "dueTold", desc := "(I)I" } : Jvm.MethodName)) ∈ lw_all := lw_g (lw_at lw_m17 54 rfl) rfl
theorem q4152 : (Jvm.Cond.instanceMethod ({ cls := "LineordersModel", name := "dueTold", desc := "(I)I" } : Jvm.MethodName)) ∈ lw_all := lw_g (lw_at lw_m17 56 rfl) rfl
theorem q4153 : (Jvm.Cond.code ({ cls := "LineordersModel", name := "dueTold", desc := "(I)I" } : Jvm.MethodName) prog_14_method_123_code (5 : Nat) (Option.some Jvm.ClassFile.FieldType.int)) ∈ lw_all := lw_g (lw_at lw_m17 57 rfl) rfl
theorem q4154 : (Jvm.Cond.methodLink "LineordersModel" (584 : Nat) ({ cls := "LineordersModel", name := "due", desc := "(I)V" } : Jvm.MethodName)) ∈ lw_all := lw_g (lw_at lw_m17 58 rfl) rfl
theorem q4156 : (Jvm.Cond.instanceMethod ({ cls := "LineordersModel", name := "due", desc := "(I)V" } : Jvm.MethodName)) ∈ lw_all := lw_g (lw_at lw_m17 60 rfl) rfl
theorem q4157 : (Jvm.Cond.code ({ cls := "LineordersModel", name := "due", desc := "(I)V" } : Jvm.MethodName) prog_14_method_111_code (2 : Nat) (Option.none : Option Jvm.ClassFile.FieldType)) ∈ lw_all := lw_g (lw_at lw_m17 61 rfl) rfl
theorem q4158 : (Jvm.Cond.methodLink "LineordersModel" (581 : Nat) ({ cls := "LineordersModel", name := "putTold", desc := "(II)I" } : Jvm.MethodName)) ∈ lw_all := lw_g (lw_at lw_m17 62 rfl) rfl
theorem q4160 : (Jvm.Cond.instanceMethod ({ cls := "LineordersModel", name := "putTold", desc := "(II)I" } : Jvm.MethodName)) ∈ lw_all := lw_g (lw_at lw_m17 64 rfl) rfl
theorem q4161 : (Jvm.Cond.code ({ cls := "LineordersModel", name := "putTold", desc := "(II)I" } : Jvm.MethodName) prog_14_method_122_code (6 : Nat) (Option.some Jvm.ClassFile.FieldType.int)) ∈ lw_all := lw_g (lw_at lw_m17 65 rfl) rfl
theorem q4162 : (Jvm.Cond.methodLink "LineordersModel" (590 : Nat) ({ cls := "LineordersModel", name := "changeWork", desc := "(IZ)I" } : Jvm.MethodName)) ∈ lw_all := lw_g (lw_at lw_m17 66 rfl) rfl
theorem q4164 : (Jvm.Cond.instanceMethod ({ cls := "LineordersModel", name := "changeWork", desc := "(IZ)I" } : Jvm.MethodName)) ∈ lw_all := lw_g (lw_at lw_m17 68 rfl) rfl
theorem q4165 : (Jvm.Cond.code ({ cls := "LineordersModel", name := "changeWork", desc := "(IZ)I" } : Jvm.MethodName) prog_14_method_121_code (5 : Nat) (Option.some Jvm.ClassFile.FieldType.int)) ∈ lw_all := lw_g (lw_at lw_m17 69 rfl) rfl
theorem q4166 : (Jvm.Cond.methodLink "LineordersModel" (593 : Nat) ({ cls := "LineordersModel", name := "joinNext", desc := "()I" } : Jvm.MethodName)) ∈ lw_all := lw_g (lw_at lw_m17 70 rfl) rfl
theorem q4168 : (Jvm.Cond.instanceMethod ({ cls := "LineordersModel", name := "joinNext", desc := "()I" } : Jvm.MethodName)) ∈ lw_all := lw_g (lw_at lw_m17 72 rfl) rfl
theorem q4169 : (Jvm.Cond.code ({ cls := "LineordersModel", name := "joinNext", desc := "()I" } : Jvm.MethodName) prog_14_method_124_code (1 : Nat) (Option.some Jvm.ClassFile.FieldType.int)) ∈ lw_all := lw_g (lw_at lw_m17 73 rfl) rfl
theorem q4170 : (Jvm.Cond.methodLink "LineordersModel" (596 : Nat) ({ cls := "LineordersModel", name := "partWork", desc := "(I)I" } : Jvm.MethodName)) ∈ lw_all := lw_g (lw_at lw_m17 74 rfl) rfl
theorem q4172 : (Jvm.Cond.instanceMethod ({ cls := "LineordersModel", name := "partWork", desc := "(I)I" } : Jvm.MethodName)) ∈ lw_all := lw_g (lw_at lw_m17 76 rfl) rfl
theorem q4173 : (Jvm.Cond.code ({ cls := "LineordersModel", name := "partWork", desc := "(I)I" } : Jvm.MethodName) prog_14_method_125_code (2 : Nat) (Option.some Jvm.ClassFile.FieldType.int)) ∈ lw_all := lw_g (lw_at lw_m17 77 rfl) rfl
theorem q4174 : (Jvm.Cond.methodLink "LineordersModel" (599 : Nat) ({ cls := "LineordersModel", name := "tellWork", desc := "(ZZ)I" } : Jvm.MethodName)) ∈ lw_all := lw_g (lw_at lw_m17 78 rfl) rfl
theorem q4176 : (Jvm.Cond.instanceMethod ({ cls := "LineordersModel", name := "tellWork", desc := "(ZZ)I" } : Jvm.MethodName)) ∈ lw_all := lw_g (lw_at lw_m17 80 rfl) rfl
theorem q4177 : (Jvm.Cond.code ({ cls := "LineordersModel", name := "tellWork", desc := "(ZZ)I" } : Jvm.MethodName) prog_14_method_126_code (3 : Nat) (Option.some Jvm.ClassFile.FieldType.int)) ∈ lw_all := lw_g (lw_at lw_m17 81 rfl) rfl
theorem q4178 : (Jvm.Cond.methodLink "LineordersModel" (603 : Nat) ({ cls := "LineordersModel", name := "holdWork", desc := "(I)I" } : Jvm.MethodName)) ∈ lw_all := lw_g (lw_at lw_m17 82 rfl) rfl
theorem q4180 : (Jvm.Cond.instanceMethod ({ cls := "LineordersModel", name := "holdWork", desc := "(I)I" } : Jvm.MethodName)) ∈ lw_all := lw_g (lw_at lw_m17 84 rfl) rfl
theorem q4181 : (Jvm.Cond.code ({ cls := "LineordersModel", name := "holdWork", desc := "(I)I" } : Jvm.MethodName) prog_14_method_127_code (2 : Nat) (Option.some Jvm.ClassFile.FieldType.int)) ∈ lw_all := lw_g (lw_at lw_m17 85 rfl) rfl
theorem q4182 : (Jvm.Cond.methodLink "LineordersModel" (606 : Nat) ({ cls := "LineordersModel", name := "dueRows", desc := "(II)I" } : Jvm.MethodName)) ∈ lw_all := lw_g (lw_at lw_m17 86 rfl) rfl
theorem q4184 : (Jvm.Cond.instanceMethod ({ cls := "LineordersModel", name := "dueRows", desc := "(II)I" } : Jvm.MethodName)) ∈ lw_all := lw_g (lw_at lw_m17 88 rfl) rfl
theorem q4185 : (Jvm.Cond.code ({ cls := "LineordersModel", name := "dueRows", desc := "(II)I" } : Jvm.MethodName) prog_14_method_129_code (4 : Nat) (Option.some Jvm.ClassFile.FieldType.int)) ∈ lw_all := lw_g (lw_at lw_m17 89 rfl) rfl
theorem q4186 : (Jvm.Cond.methodLink "LineordersModel" (609 : Nat) ({ cls := "LineordersModel", name := "exchangeWork", desc := "()I" } : Jvm.MethodName)) ∈ lw_all := lw_g (lw_at lw_m17 90 rfl) rfl
theorem q4188 : (Jvm.Cond.instanceMethod ({ cls := "LineordersModel", name := "exchangeWork", desc := "()I" } : Jvm.MethodName)) ∈ lw_all := lw_g (lw_at lw_m17 92 rfl) rfl
theorem q4189 : (Jvm.Cond.code ({ cls := "LineordersModel", name := "exchangeWork", desc := "()I" } : Jvm.MethodName) prog_14_method_128_code (1 : Nat) (Option.some Jvm.ClassFile.FieldType.int)) ∈ lw_all := lw_g (lw_at lw_m17 93 rfl) rfl
theorem q4190 : (Jvm.Cond.methodLink "LineordersModel" (612 : Nat) ({ cls := "LineordersModel", name := "otherWorkAct", desc := "(I)I" } : Jvm.MethodName)) ∈ lw_all := lw_g (lw_at lw_m17 94 rfl) rfl
theorem q4192 : (Jvm.Cond.instanceMethod ({ cls := "LineordersModel", name := "otherWorkAct", desc := "(I)I" } : Jvm.MethodName)) ∈ lw_all := lw_g (lw_at lw_m17 96 rfl) rfl
theorem q4193 : (Jvm.Cond.code ({ cls := "LineordersModel", name := "otherWorkAct", desc := "(I)I" } : Jvm.MethodName) prog_14_method_132_code (3 : Nat) (Option.some Jvm.ClassFile.FieldType.int)) ∈ lw_all := lw_g (lw_at lw_m17 97 rfl) rfl
theorem q4194 : (Jvm.Cond.methodLink "LineordersModel" (615 : Nat) ({ cls := "LineordersModel", name := "writeWork", desc := "(I)I" } : Jvm.MethodName)) ∈ lw_all := lw_g (lw_at lw_m17 98 rfl) rfl
theorem q4196 : (Jvm.Cond.instanceMethod ({ cls := "LineordersModel", name := "writeWork", desc := "(I)I" } : Jvm.MethodName)) ∈ lw_all := lw_g (lw_at lw_m17 100 rfl) rfl
theorem q4197 : (Jvm.Cond.code ({ cls := "LineordersModel", name := "writeWork", desc := "(I)I" } : Jvm.MethodName) prog_14_method_130_code (2 : Nat) (Option.some Jvm.ClassFile.FieldType.int)) ∈ lw_all := lw_g (lw_at lw_m17 101 rfl) rfl
theorem q4198 : (Jvm.Cond.methodLink "LineordersModel" (676 : Nat) ({ cls := "LineordersModel", name := "becomeNew", desc := "()V" } : Jvm.MethodName)) ∈ lw_all := lw_g (lw_at lw_m17 102 rfl) rfl
theorem q4200 : (Jvm.Cond.instanceMethod ({ cls := "LineordersModel", name := "becomeNew", desc := "()V" } : Jvm.MethodName)) ∈ lw_all := lw_g (lw_at lw_m17 104 rfl) rfl
theorem q4201 : (Jvm.Cond.code ({ cls := "LineordersModel", name := "becomeNew", desc := "()V" } : Jvm.MethodName) prog_14_method_145_code (2 : Nat) (Option.none : Option Jvm.ClassFile.FieldType)) ∈ lw_all := lw_g (lw_at lw_m17 105 rfl) rfl
theorem q4203 : (Jvm.Cond.instanceMethod ({ cls := "LineordersModel", name := "reason", desc := "()I" } : Jvm.MethodName)) ∈ lw_all := lw_g (lw_at lw_m17 107 rfl) rfl
theorem q4204 : (Jvm.Cond.selects "LineordersModel" ({ cls := "LineordersModel", name := "reason", desc := "()I" } : Jvm.MethodName) ({ cls := "LineordersModel", name := "reason", desc := "()I" } : Jvm.MethodName)) ∈ lw_all := lw_g (lw_at lw_m17 108 rfl) rfl
theorem q4205 : (Jvm.Cond.code ({ cls := "LineordersModel", name := "reason", desc := "()I" } : Jvm.MethodName) prog_14_method_156_code (1 : Nat) (Option.some Jvm.ClassFile.FieldType.int)) ∈ lw_all := lw_g (lw_at lw_m17 109 rfl) rfl
theorem q4207 : (Jvm.Cond.instanceMethod ({ cls := "LineordersModel", name := "scriptLength", desc := "(I)I" } : Jvm.MethodName)) ∈ lw_all := lw_g (lw_at lw_m17 111 rfl) rfl
theorem q4208 : (Jvm.Cond.selects "LineordersModel" ({ cls := "LineordersModel", name := "scriptLength", desc := "(I)I" } : Jvm.MethodName) ({ cls := "LineordersModel", name := "scriptLength", desc := "(I)I" } : Jvm.MethodName)) ∈ lw_all := lw_g (lw_at lw_m17 112 rfl) rfl
theorem q4209 : (Jvm.Cond.code ({ cls := "LineordersModel", name := "scriptLength", desc := "(I)I" } : Jvm.MethodName) prog_14_method_157_code (2 : Nat) (Option.some Jvm.ClassFile.FieldType.int)) ∈ lw_all := lw_g (lw_at lw_m17 113 rfl) rfl
theorem q4211 : (Jvm.Cond.instanceMethod ({ cls := "LineordersModel", name := "scriptAt", desc := "(II)I" } : Jvm.MethodName)) ∈ lw_all := lw_g (lw_at lw_m17 115 rfl) rfl
theorem q4212 : (Jvm.Cond.selects "LineordersModel" ({ cls := "LineordersModel", name := "scriptAt", desc := "(II)I" } : Jvm.MethodName) ({ cls := "LineordersModel", name := "scriptAt", desc := "(II)I" } : Jvm.MethodName)) ∈ lw_all := lw_g (lw_at lw_m17 116 rfl) rfl
theorem q4213 : (Jvm.Cond.code ({ cls := "LineordersModel", name := "scriptAt", desc := "(II)I" } : Jvm.MethodName) prog_14_method_158_code (4 : Nat) (Option.some Jvm.ClassFile.FieldType.int)) ∈ lw_all := lw_g (lw_at lw_m17 117 rfl) rfl
theorem q4215 : (Jvm.Cond.instanceMethod ({ cls := "LineordersModel", name := "undo", desc := "()I" } : Jvm.MethodName)) ∈ lw_all := lw_g (lw_at lw_m17 119 rfl) rfl
theorem q4216 : (Jvm.Cond.selects "LineordersModel" ({ cls := "LineordersModel", name := "undo", desc := "()I" } : Jvm.MethodName) ({ cls := "LineordersModel", name := "undo", desc := "()I" } : Jvm.MethodName)) ∈ lw_all := lw_g (lw_at lw_m17 120 rfl) rfl
theorem q4217 : (Jvm.Cond.code ({ cls := "LineordersModel", name := "undo", desc := "()I" } : Jvm.MethodName) prog_14_method_159_code (1 : Nat) (Option.some Jvm.ClassFile.FieldType.int)) ∈ lw_all := lw_g (lw_at lw_m17 121 rfl) rfl
theorem q4218 : (Jvm.Cond.methodLink "LineordersModel" (700 : Nat) ({ cls := "LineordersModel", name := "undoLatest", desc := "()V" } : Jvm.MethodName)) ∈ lw_all := lw_g (lw_at lw_m17 122 rfl) rfl
theorem q4220 : (Jvm.Cond.instanceMethod ({ cls := "LineordersModel", name := "undoLatest", desc := "()V" } : Jvm.MethodName)) ∈ lw_all := lw_g (lw_at lw_m17 124 rfl) rfl
theorem q4221 : (Jvm.Cond.code ({ cls := "LineordersModel", name := "undoLatest", desc := "()V" } : Jvm.MethodName) prog_14_method_102_code (3 : Nat) (Option.none : Option Jvm.ClassFile.FieldType)) ∈ lw_all := lw_g (lw_at lw_m17 125 rfl) rfl
theorem q4222 : (Jvm.Cond.methodLink "LineordersModel" (500 : Nat) ({ cls := "LineordersModel", name := "latestDeed", desc := "()I" } : Jvm.MethodName)) ∈ lw_all := lw_g (lw_at lw_m17 126 rfl) rfl
theorem q4224 : (Jvm.Cond.instanceMethod ({ cls := "LineordersModel", name := "latestDeed", desc := "()I" } : Jvm.MethodName)) ∈ lw_all := lw_g (lw_at lw_m17 128 rfl) rfl
theorem q4225 : (Jvm.Cond.code ({ cls := "LineordersModel", name := "latestDeed", desc := "()I" } : Jvm.MethodName) prog_14_method_101_code (1 : Nat) (Option.some Jvm.ClassFile.FieldType.int)) ∈ lw_all := lw_g (lw_at lw_m17 129 rfl) rfl
theorem q4227 : (Jvm.Cond.instanceMethod ({ cls := "LineordersModel", name := "undoRun", desc := "()I" } : Jvm.MethodName)) ∈ lw_all := lw_g (lw_at lw_m17 131 rfl) rfl
theorem q4228 : (Jvm.Cond.selects "LineordersModel" ({ cls := "LineordersModel", name := "undoRun", desc := "()I" } : Jvm.MethodName) ({ cls := "LineordersModel", name := "undoRun", desc := "()I" } : Jvm.MethodName)) ∈ lw_all := lw_g (lw_at lw_m17 132 rfl) rfl
theorem q4229 : (Jvm.Cond.code ({ cls := "LineordersModel", name := "undoRun", desc := "()I" } : Jvm.MethodName) prog_14_method_160_code (3 : Nat) (Option.some Jvm.ClassFile.FieldType.int)) ∈ lw_all := lw_g (lw_at lw_m17 133 rfl) rfl
theorem q4231 : (Jvm.Cond.instanceMethod ({ cls := "LineordersModel", name := "deeds", desc := "()I" } : Jvm.MethodName)) ∈ lw_all := lw_g (lw_at lw_m17 135 rfl) rfl
theorem q4232 : (Jvm.Cond.selects "LineordersModel" ({ cls := "LineordersModel", name := "deeds", desc := "()I" } : Jvm.MethodName) ({ cls := "LineordersModel", name := "deeds", desc := "()I" } : Jvm.MethodName)) ∈ lw_all := lw_g (lw_at lw_m17 136 rfl) rfl
theorem q4233 : (Jvm.Cond.code ({ cls := "LineordersModel", name := "deeds", desc := "()I" } : Jvm.MethodName) prog_14_method_161_code (1 : Nat) (Option.some Jvm.ClassFile.FieldType.int)) ∈ lw_all := lw_g (lw_at lw_m17 137 rfl) rfl
theorem q4235 : (Jvm.Cond.instanceMethod ({ cls := "LineordersModel", name := "lines", desc := "()I" } : Jvm.MethodName)) ∈ lw_all := lw_g (lw_at lw_m17 139 rfl) rfl
theorem q4236 : (Jvm.Cond.selects "LineordersModel" ({ cls := "LineordersModel", name := "lines", desc := "()I" } : Jvm.MethodName) ({ cls := "LineordersModel", name := "lines", desc := "()I" } : Jvm.MethodName)) ∈ lw_all := lw_g (lw_at lw_m17 140 rfl) rfl
theorem q4237 : (Jvm.Cond.code ({ cls := "LineordersModel", name := "lines", desc := "()I" } : Jvm.MethodName) prog_14_method_162_code (1 : Nat) (Option.some Jvm.ClassFile.FieldType.int)) ∈ lw_all := lw_g (lw_at lw_m17 141 rfl) rfl
theorem q4239 : (Jvm.Cond.instanceMethod ({ cls := "LineordersModel", name := "length", desc := "(I)I" } : Jvm.MethodName)) ∈ lw_all := lw_g (lw_at lw_m17 143 rfl) rfl
theorem q4240 : (Jvm.Cond.selects "LineordersModel" ({ cls := "LineordersModel", name := "length", desc := "(I)I" } : Jvm.MethodName) ({ cls := "LineordersModel", name := "length", desc := "(I)I" } : Jvm.MethodName)) ∈ lw_all := lw_g (lw_at lw_m17 144 rfl) rfl
theorem q4241 : (Jvm.Cond.code ({ cls := "LineordersModel", name := "length", desc := "(I)I" } : Jvm.MethodName) prog_14_method_165_code (2 : Nat) (Option.some Jvm.ClassFile.FieldType.int)) ∈ lw_all := lw_g (lw_at lw_m17 145 rfl) rfl
theorem q4242 : (Jvm.Cond.methodLink "LineordersModel" (703 : Nat) ({ cls := "LineordersModel", name := "isLine", desc := "(I)Z" } : Jvm.MethodName)) ∈ lw_all := lw_g (lw_at lw_m17 146 rfl) rfl
theorem q4244 : (Jvm.Cond.instanceMethod ({ cls := "LineordersModel", name := "isLine", desc := "(I)Z" } : Jvm.MethodName)) ∈ lw_all := lw_g (lw_at lw_m17 148 rfl) rfl
theorem q4245 : (Jvm.Cond.code ({ cls := "LineordersModel", name := "isLine", desc := "(I)Z" } : Jvm.MethodName) prog_14_method_163_code (2 : Nat) (Option.some Jvm.ClassFile.FieldType.boolean)) ∈ lw_all := lw_g (lw_at lw_m17 149 rfl) rfl
theorem q4247 : (Jvm.Cond.instanceMethod ({ cls := "LineordersModel", name := "at", desc := "(II)I" } : Jvm.MethodName)) ∈ lw_all := lw_g (lw_at lw_m17 151 rfl) rfl
theorem q4248 : (Jvm.Cond.selects "LineordersModel" ({ cls := "LineordersModel", name := "at", desc := "(II)I" } : Jvm.MethodName) ({ cls := "LineordersModel", name := "at", desc := "(II)I" } : Jvm.MethodName)) ∈ lw_all := lw_g (lw_at lw_m17 152 rfl) rfl
theorem q4249 : (Jvm.Cond.code ({ cls := "LineordersModel", name := "at", desc := "(II)I" } : Jvm.MethodName) prog_14_method_166_code (3 : Nat) (Option.some Jvm.ClassFile.FieldType.int)) ∈ lw_all := lw_g (lw_at lw_m17 153 rfl) rfl
theorem q4250 : (Jvm.Cond.methodLink "LineordersModel" (706 : Nat) ({ cls := "LineordersModel", name := "isPlace", desc := "(ZII)Z" } : Jvm.MethodName)) ∈ lw_all := lw_g (lw_at lw_m17 154 rfl) rfl
theorem q4252 : (Jvm.Cond.instanceMethod ({ cls := "LineordersModel", name := "isPlace", desc := "(ZII)Z" } : Jvm.MethodName)) ∈ lw_all := lw_g (lw_at lw_m17 156 rfl) rfl
theorem q4253 : (Jvm.Cond.code ({ cls := "LineordersModel", name := "isPlace", desc := "(ZII)Z" } : Jvm.MethodName) prog_14_method_164_code (5 : Nat) (Option.some Jvm.ClassFile.FieldType.boolean)) ∈ lw_all := lw_g (lw_at lw_m17 157 rfl) rfl
theorem q4255 : (Jvm.Cond.instanceMethod ({ cls := "LineordersModel", name := "id", desc := "(I)I" } : Jvm.MethodName)) ∈ lw_all := lw_g (lw_at lw_m17 159 rfl) rfl
theorem q4256 : (Jvm.Cond.selects "LineordersModel" ({ cls := "LineordersModel", name := "id", desc := "(I)I" } : Jvm.MethodName) ({ cls := "LineordersModel", name := "id", desc := "(I)I" } : Jvm.MethodName)) ∈ lw_all := lw_g (lw_at lw_m17 160 rfl) rfl
theorem q4257 : (Jvm.Cond.code ({ cls := "LineordersModel", name := "id", desc := "(I)I" } : Jvm.MethodName) prog_14_method_167_code (2 : Nat) (Option.some Jvm.ClassFile.FieldType.int)) ∈ lw_all := lw_g (lw_at lw_m17 161 rfl) rfl
theorem q4259 : (Jvm.Cond.instanceMethod ({ cls := "LineordersModel", name := "lineOf", desc := "(I)I" } : Jvm.MethodName)) ∈ lw_all := lw_g (lw_at lw_m17 163 rfl) rfl
theorem q4260 : (Jvm.Cond.selects "LineordersModel" ({ cls := "LineordersModel", name := "lineOf", desc := "(I)I" } : Jvm.MethodName) ({ cls := "LineordersModel", name := "lineOf", desc := "(I)I" } : Jvm.MethodName)) ∈ lw_all := lw_g (lw_at lw_m17 164 rfl) rfl
theorem q4261 : (Jvm.Cond.code ({ cls := "LineordersModel", name := "lineOf", desc := "(I)I" } : Jvm.MethodName) prog_14_method_168_code (3 : Nat) (Option.some Jvm.ClassFile.FieldType.int)) ∈ lw_all := lw_g (lw_at lw_m17 165 rfl) rfl
theorem q4263 : (Jvm.Cond.instanceMethod ({ cls := "LineordersModel", name := "present", desc := "()I" } : Jvm.MethodName)) ∈ lw_all := lw_g (lw_at lw_m17 167 rfl) rfl
theorem q4264 : (Jvm.Cond.selects "LineordersModel" ({ cls := "LineordersModel", name := "present", desc := "()I" } : Jvm.MethodName) ({ cls := "LineordersModel", name := "present", desc := "()I" } : Jvm.MethodName)) ∈ lw_all := lw_g (lw_at lw_m17 168 rfl) rfl
theorem q4265 : (Jvm.Cond.code ({ cls := "LineordersModel", name := "present", desc := "()I" } : Jvm.MethodName) prog_14_method_169_code (1 : Nat) (Option.some Jvm.ClassFile.FieldType.int)) ∈ lw_all := lw_g (lw_at lw_m17 169 rfl) rfl
theorem q4267 : (Jvm.Cond.instanceMethod ({ cls := "LineordersModel", name := "mark", desc := "(I)I" } : Jvm.MethodName)) ∈ lw_all := lw_g (lw_at lw_m17 171 rfl) rfl
theorem q4268 : (Jvm.Cond.selects "LineordersModel" ({ cls := "LineordersModel", name := "mark", desc := "(I)I" } : Jvm.MethodName) ({ cls := "LineordersModel", name := "mark", desc := "(I)I" } : Jvm.MethodName)) ∈ lw_all := lw_g (lw_at lw_m17 172 rfl) rfl
theorem q4269 : (Jvm.Cond.code ({ cls := "LineordersModel", name := "mark", desc := "(I)I" } : Jvm.MethodName) prog_14_method_170_code (2 : Nat) (Option.some Jvm.ClassFile.FieldType.int)) ∈ lw_all := lw_g (lw_at lw_m17 173 rfl) rfl
theorem q4271 : (Jvm.Cond.instanceMethod ({ cls := "LineordersModel", name := "sample", desc := "(II)I" } : Jvm.MethodName)) ∈ lw_all := lw_g (lw_at lw_m17 175 rfl) rfl
theorem q4272 : (Jvm.Cond.selects "LineordersModel" ({ cls := "LineordersModel", name := "sample", desc := "(II)I" } : Jvm.MethodName) ({ cls := "LineordersModel", name := "sample", desc := "(II)I" } : Jvm.MethodName)) ∈ lw_all := lw_g (lw_at lw_m17 176 rfl) rfl
theorem q4273 : (Jvm.Cond.code ({ cls := "LineordersModel", name := "sample", desc := "(II)I" } : Jvm.MethodName) prog_14_method_172_code (8 : Nat) (Option.some Jvm.ClassFile.FieldType.int)) ∈ lw_all := lw_g (lw_at lw_m17 177 rfl) rfl
theorem q4274 : (Jvm.Cond.constant "LineordersModel" (714 : Nat) (65535 : Int32)) ∈ lw_all := lw_g (lw_at lw_m17 178 rfl) rfl
theorem q4275 : (Jvm.Cond.methodLink "LineordersModel" (715 : Nat) ({ cls := "LineordersModel", name := "lot", desc := "(I)I" } : Jvm.MethodName)) ∈ lw_all := lw_g (lw_at lw_m17 179 rfl) rfl
theorem q4277 : (Jvm.Cond.instanceMethod ({ cls := "LineordersModel", name := "lot", desc := "(I)I" } : Jvm.MethodName)) ∈ lw_all := lw_g (lw_at lw_m17 181 rfl) rfl
theorem q4278 : (Jvm.Cond.code ({ cls := "LineordersModel", name := "lot", desc := "(I)I" } : Jvm.MethodName) prog_14_method_171_code (2 : Nat) (Option.some Jvm.ClassFile.FieldType.int)) ∈ lw_all := lw_g (lw_at lw_m17 182 rfl) rfl
theorem q4279 : (Jvm.Cond.constant "LineordersModel" (713 : Nat) (65536 : Int32)) ∈ lw_all := lw_g (lw_at lw_m17 183 rfl) rfl
theorem q4281 : (Jvm.Cond.instanceMethod ({ cls := "LineordersModel", name := "held", desc := "()I" } : Jvm.MethodName)) ∈ lw_all := lw_g (lw_at lw_m17 185 rfl) rfl
theorem q4282 : (Jvm.Cond.selects "LineordersModel" ({ cls := "LineordersModel", name := "held", desc := "()I" } : Jvm.MethodName) ({ cls := "LineordersModel", name := "held", desc := "()I" } : Jvm.MethodName)) ∈ lw_all := lw_g (lw_at lw_m17 186 rfl) rfl
theorem q4283 : (Jvm.Cond.code ({ cls := "LineordersModel", name := "held", desc := "()I" } : Jvm.MethodName) prog_14_method_173_code (1 : Nat) (Option.some Jvm.ClassFile.FieldType.int)) ∈ lw_all := lw_g (lw_at lw_m17 187 rfl) rfl
theorem q4285 : (Jvm.Cond.instanceMethod ({ cls := "LineordersModel", name := "heldLength", desc := "(I)I" } : Jvm.MethodName)) ∈ lw_all := lw_g (lw_at lw_m17 189 rfl) rfl
theorem q4286 : (Jvm.Cond.selects "LineordersModel" ({ cls := "LineordersModel", name := "heldLength", desc := "(I)I" } : Jvm.MethodName) ({ cls := "LineordersModel", name := "heldLength", desc := "(I)I" } : Jvm.MethodName)) ∈ lw_all := lw_g (lw_at lw_m17 190 rfl) rfl
theorem q4287 : (Jvm.Cond.code ({ cls := "LineordersModel", name := "heldLength", desc := "(I)I" } : Jvm.MethodName) prog_14_method_175_code (3 : Nat) (Option.some Jvm.ClassFile.FieldType.int)) ∈ lw_all := lw_g (lw_at lw_m17 191 rfl) rfl
theorem q4288 : (Jvm.Cond.methodLink "LineordersModel" (718 : Nat) ({ cls := "LineordersModel", name := "lengthOf", desc := "(ZI)I" } : Jvm.MethodName)) ∈ lw_all := lw_g (lw_at lw_m17 192 rfl) rfl
theorem q4290 : (Jvm.Cond.instanceMethod ({ cls := "LineordersModel", name := "lengthOf", desc := "(ZI)I" } : Jvm.MethodName)) ∈ lw_all := lw_g (lw_at lw_m17 194 rfl) rfl
theorem q4291 : (Jvm.Cond.code ({ cls := "LineordersModel", name := "lengthOf", desc := "(ZI)I" } : Jvm.MethodName) prog_14_method_174_code (3 : Nat) (Option.some Jvm.ClassFile.FieldType.int)) ∈ lw_all := lw_g (lw_at lw_m17 195 rfl) rfl
theorem q4293 : (Jvm.Cond.instanceMethod ({ cls := "LineordersModel", name := "heldAt", desc := "(II)I" } : Jvm.MethodName)) ∈ lw_all := lw_g (lw_at lw_m17 197 rfl) rfl
theorem q4294 : (Jvm.Cond.selects "LineordersModel" ({ cls := "LineordersModel", name := "heldAt", desc := "(II)I" } : Jvm.MethodName) ({ cls := "LineordersModel", name := "heldAt", desc := "(II)I" } : Jvm.MethodName)) ∈ lw_all := lw_g (lw_at lw_m17 198 rfl) rfl
theorem q4295 : (Jvm.Cond.code ({ cls := "LineordersModel", name := "heldAt", desc := "(II)I" } : Jvm.MethodName) prog_14_method_176_code (4 : Nat) (Option.some Jvm.ClassFile.FieldType.int)) ∈ lw_all := lw_g (lw_at lw_m17 199 rfl) rfl
theorem q4297 : (Jvm.Cond.instanceMethod ({ cls := "LineordersModel", name := "outs", desc := "()I" } : Jvm.MethodName)) ∈ lw_all := lw_g (lw_at lw_m17 201 rfl) rfl
theorem q4298 : (Jvm.Cond.selects "LineordersModel" ({ cls := "LineordersModel", name := "outs", desc := "()I" } : Jvm.MethodName) ({ cls := "LineordersModel", name := "outs", desc := "()I" } : Jvm.MethodName)) ∈ lw_all := lw_g (lw_at lw_m17 202 rfl) rfl
theorem q4299 : (Jvm.Cond.code ({ cls := "LineordersModel", name := "outs", desc := "()I" } : Jvm.MethodName) prog_14_method_177_code (1 : Nat) (Option.some Jvm.ClassFile.FieldType.int)) ∈ lw_all := lw_g (lw_at lw_m17 203 rfl) rfl
theorem q4301 : (Jvm.Cond.instanceMethod ({ cls := "LineordersModel", name := "outLength", desc := "(I)I" } : Jvm.MethodName)) ∈ lw_all := lw_g (lw_at lw_m17 205 rfl) rfl
theorem q4302 : (Jvm.Cond.selects "LineordersModel" ({ cls := "LineordersModel", name := "outLength", desc := "(I)I" } : Jvm.MethodName) ({ cls := "LineordersModel", name := "outLength", desc := "(I)I" } : Jvm.MethodName)) ∈ lw_all := lw_g (lw_at lw_m17 206 rfl) rfl
theorem q4303 : (Jvm.Cond.code ({ cls := "LineordersModel", name := "outLength", desc := "(I)I" } : Jvm.MethodName) prog_14_method_178_code (3 : Nat) (Option.some Jvm.ClassFile.FieldType.int)) ∈ lw_all := lw_g (lw_at lw_m17 207 rfl) rfl
theorem q4305 : (Jvm.Cond.instanceMethod ({ cls := "LineordersModel", name := "outAt", desc := "(II)I" } : Jvm.MethodName)) ∈ lw_all := lw_g (lw_at lw_m17 209 rfl) rfl
theorem q4306 : (Jvm.Cond.selects "LineordersModel" ({ cls := "LineordersModel", name := "outAt", desc := "(II)I" } : Jvm.MethodName) ({ cls := "LineordersModel", name := "outAt", desc := "(II)I" } : Jvm.MethodName)) ∈ lw_all := lw_g (lw_at lw_m17 210 rfl) rfl
theorem q4307 : (Jvm.Cond.code ({ cls := "LineordersModel", name := "outAt", desc := "(II)I" } : Jvm.MethodName) prog_14_method_179_code (4 : Nat) (Option.some Jvm.ClassFile.FieldType.int)) ∈ lw_all := lw_g (lw_at lw_m17 211 rfl) rfl
theorem q4309 : (Jvm.Cond.instanceMethod ({ cls := "LineordersModel", name := "clearOut", desc := "()I" } : Jvm.MethodName)) ∈ lw_all := lw_g (lw_at lw_m17 213 rfl) rfl
theorem q4310 : (Jvm.Cond.selects "LineordersModel" ({ cls := "LineordersModel", name := "clearOut", desc := "()I" } : Jvm.MethodName) ({ cls := "LineordersModel", name := "clearOut", desc := "()I" } : Jvm.MethodName)) ∈ lw_all := lw_g (lw_at lw_m17 214 rfl) rfl
theorem q4311 : (Jvm.Cond.code ({ cls := "LineordersModel", name := "clearOut", desc := "()I" } : Jvm.MethodName) prog_14_method_180_code (2 : Nat) (Option.some Jvm.ClassFile.FieldType.int)) ∈ lw_all := lw_g (lw_at lw_m17 215 rfl) rfl
theorem q4313 : (Jvm.Cond.instanceMethod ({ cls := "LineordersModel", name := "fileRows", desc := "(I)I" } : Jvm.MethodName)) ∈ lw_all := lw_g (lw_at lw_m17 217 rfl) rfl
theorem q4314 : (Jvm.Cond.selects "LineordersModel" ({ cls := "LineordersModel", name := "fileRows", desc := "(I)I" } : Jvm.MethodName) ({ cls := "LineordersModel", name := "fileRows", desc := "(I)I" } : Jvm.MethodName)) ∈ lw_all := lw_g (lw_at lw_m17 218 rfl) rfl
theorem q4315 : (Jvm.Cond.code ({ cls := "LineordersModel", name := "fileRows", desc := "(I)I" } : Jvm.MethodName) prog_14_method_181_code (2 : Nat) (Option.some Jvm.ClassFile.FieldType.int)) ∈ lw_all := lw_g (lw_at lw_m17 219 rfl) rfl
theorem q4317 : (Jvm.Cond.instanceMethod ({ cls := "LineordersModel", name := "fileLength", desc := "(II)I" } : Jvm.MethodName)) ∈ lw_all := lw_g (lw_at lw_m17 221 rfl) rfl
theorem q4318 : (Jvm.Cond.selects "LineordersModel" ({ cls := "LineordersModel", name := "fileLength", desc := "(II)I" } : Jvm.MethodName) ({ cls := "LineordersModel", name := "fileLength", desc := "(II)I" } : Jvm.MethodName)) ∈ lw_all := lw_g (lw_at lw_m17 222 rfl) rfl
theorem q4319 : (Jvm.Cond.code ({ cls := "LineordersModel", name := "fileLength", desc := "(II)I" } : Jvm.MethodName) prog_14_method_183_code (4 : Nat) (Option.some Jvm.ClassFile.FieldType.int)) ∈ lw_all := lw_g (lw_at lw_m17 223 rfl) rfl
theorem q4320 : (Jvm.Cond.methodLink "LineordersModel" (722 : Nat) ({ cls := "LineordersModel", name := "isFileRow", desc := "(II)Z" } : Jvm.MethodName)) ∈ lw_all := lw_g (lw_at lw_m17 224 rfl) rfl
theorem q4322 : (Jvm.Cond.instanceMethod ({ cls := "LineordersModel", name := "isFileRow", desc := "(II)Z" } : Jvm.MethodName)) ∈ lw_all := lw_g (lw_at lw_m17 226 rfl) rfl
theorem q4323 : (Jvm.Cond.code ({ cls := "LineordersModel", name := "isFileRow", desc := "(II)Z" } : Jvm.MethodName) prog_14_method_182_code (3 : Nat) (Option.some Jvm.ClassFile.FieldType.boolean)) ∈ lw_all := lw_g (lw_at lw_m17 227 rfl) rfl
theorem q4325 : (Jvm.Cond.instanceMethod ({ cls := "LineordersModel", name := "fileAt", desc := "(III)I" } : Jvm.MethodName)) ∈ lw_all := lw_g (lw_at lw_m17 229 rfl) rfl
theorem q4326 : (Jvm.Cond.selects "LineordersModel" ({ cls := "LineordersModel", name := "fileAt", desc := "(III)I" } : Jvm.MethodName) ({ cls := "LineordersModel", name := "fileAt", desc := "(III)I" } : Jvm.MethodName)) ∈ lw_all := lw_g (lw_at lw_m17 230 rfl) rfl
theorem q4327 : (Jvm.Cond.code ({ cls := "LineordersModel", name := "fileAt", desc := "(III)I" } : Jvm.MethodName) prog_14_method_184_code (5 : Nat) (Option.some Jvm.ClassFile.FieldType.int)) ∈ lw_all := lw_g (lw_at lw_m17 231 rfl) rfl
theorem q4329 : (Jvm.Cond.instanceMethod ({ cls := "LineordersModel", name := "find", desc := "(Z)I" } : Jvm.MethodName)) ∈ lw_all := lw_g (lw_at lw_m17 233 rfl) rfl
theorem q4330 : (Jvm.Cond.selects "LineordersModel" ({ cls := "LineordersModel", name := "find", desc := "(Z)I" } : Jvm.MethodName) ({ cls := "LineordersModel", name := "find", desc := "(Z)I" } : Jvm.MethodName)) ∈ lw_all := lw_g (lw_at lw_m17 234 rfl) rfl
theorem q4331 : (Jvm.Cond.code ({ cls := "LineordersModel", name := "find", desc := "(Z)I" } : Jvm.MethodName) prog_14_method_185_code (3 : Nat) (Option.some Jvm.ClassFile.FieldType.int)) ∈ lw_all := lw_g (lw_at lw_m17 235 rfl) rfl
theorem q4333 : (Jvm.Cond.instanceMethod ({ cls := "LineordersModel", name := "findStart", desc := "(I)I" } : Jvm.MethodName)) ∈ lw_all := lw_g (lw_at lw_m17 237 rfl) rfl
theorem q4334 : (Jvm.Cond.selects "LineordersModel" ({ cls := "LineordersModel", name := "findStart", desc := "(I)I" } : Jvm.MethodName) ({ cls := "LineordersModel", name := "findStart", desc := "(I)I" } : Jvm.MethodName)) ∈ lw_all := lw_g (lw_at lw_m17 238 rfl) rfl
theorem q4335 : (Jvm.Cond.code ({ cls := "LineordersModel", name := "findStart", desc := "(I)I" } : Jvm.MethodName) prog_14_method_187_code (3 : Nat) (Option.some Jvm.ClassFile.FieldType.int)) ∈ lw_all := lw_g (lw_at lw_m17 239 rfl) rfl
theorem q4336 : (Jvm.Cond.methodLink "LineordersModel" (725 : Nat) ({ cls := "LineordersModel", name := "looks", desc := "(I)Z" } : Jvm.MethodName)) ∈ lw_all := lw_g (lw_at lw_m18 0 rfl) rfl
theorem q4338 : (Jvm.Cond.instanceMethod ({ cls := "LineordersModel", name := "looks", desc := "(I)Z" } : Jvm.MethodName)) ∈ lw_all := lw_g (lw_at lw_m18 2 rfl) rfl
theorem q4339 : (Jvm.Cond.code ({ cls := "LineordersModel", name := "looks", desc := "(I)Z" } : Jvm.MethodName) prog_14_method_186_code (2 : Nat) (Option.some Jvm.ClassFile.FieldType.boolean)) ∈ lw_all := lw_g (lw_at lw_m18 3 rfl) rfl
theorem q4341 : (Jvm.Cond.instanceMethod ({ cls := "LineordersModel", name := "findEnd", desc := "(I)I" } : Jvm.MethodName)) ∈ lw_all := lw_g (lw_at lw_m18 5 rfl) rfl
theorem q4342 : (Jvm.Cond.selects "LineordersModel" ({ cls := "LineordersModel", name := "findEnd", desc := "(I)I" } : Jvm.MethodName) ({ cls := "LineordersModel", name := "findEnd", desc := "(I)I" } : Jvm.MethodName)) ∈ lw_all := lw_g (lw_at lw_m18 6 rfl) rfl
theorem q4343 : (Jvm.Cond.code ({ cls := "LineordersModel", name := "findEnd", desc := "(I)I" } : Jvm.MethodName) prog_14_method_188_code (3 : Nat) (Option.some Jvm.ClassFile.FieldType.int)) ∈ lw_all := lw_g (lw_at lw_m18 7 rfl) rfl
theorem q4345 : (Jvm.Cond.instanceMethod ({ cls := "LineordersModel", name := "diffe\x72", desc := "(I)I" } : Jvm.MethodName)) ∈ lw_all := lw_g (lw_at lw_m18 9 rfl) rfl
theorem q4346 : (Jvm.Cond.selects "LineordersModel" ({ cls := "LineordersModel", name := "diffe\x72", desc := "(I)I" } : Jvm.MethodName) ({ cls := "LineordersModel", name := "diffe\x72", desc := "(I)I" } : Jvm.MethodName)) ∈ lw_all := lw_g (lw_at lw_m18 10 rfl) rfl
theorem q4347 : (Jvm.Cond.code ({ cls := "LineordersModel", name := "diffe\x72", desc := "(I)I" } : Jvm.MethodName) prog_14_method_192_code (2 : Nat) (Option.some Jvm.ClassFile.FieldType.int)) ∈ lw_all := lw_g (lw_at lw_m18 11 rfl) rfl
theorem q4348 : (Jvm.Cond.methodLink "LineordersModel" (734 : Nat) ({ cls := "LineordersModel", name := "pai\x72", desc := "(I)I" } : Jvm.MethodName)) ∈ lw_all := lw_g (lw_at lw_m18 12 rfl) rfl
theorem q4350 : (Jvm.Cond.instanceMethod ({ cls := "LineordersModel", name := "pai\x72", desc := "(I)I" } : Jvm.MethodName)) ∈ lw_all := lw_g (lw_at lw_m18 14 rfl) rfl
theorem q4351 : (Jvm.Cond.code ({ cls := "LineordersModel", name := "pai\x72", desc := "(I)I" } : Jvm.MethodName) prog_14_method_191_code (7 : Nat) (Option.some Jvm.ClassFile.FieldType.int)) ∈ lw_all := lw_g (lw_at lw_m18 15 rfl) rfl
theorem q4352 : (Jvm.Cond.methodLink "LineordersModel" (731 : Nat) ({ cls := "LineordersModel", name := "compareTo", desc := "(I)V" } : Jvm.MethodName)) ∈ lw_all := lw_g (lw_at lw_m18 16 rfl) rfl
theorem q4354 : (Jvm.Cond.instanceMethod ({ cls := "LineordersModel", name := "compareTo", desc := "(I)V" } : Jvm.MethodName)) ∈ lw_all := lw_g (lw_at lw_m18 18 rfl) rfl
theorem q4355 : (Jvm.Cond.code ({ cls := "LineordersModel", name := "compareTo", desc := "(I)V" } : Jvm.MethodName) prog_14_method_189_code (7 : Nat) (Option.none : Option Jvm.ClassFile.FieldType)) ∈ lw_all := lw_g (lw_at lw_m18 19 rfl) rfl
theorem q4356 : (Jvm.Cond.methodLink "LineordersModel" (728 : Nat) ({ cls := "LineordersModel", name := "large\x72", desc := "(II)I" } : Jvm.MethodName)) ∈ lw_all := lw_g (lw_at lw_m18 20 rfl) rfl
theorem q4357 : (Jvm.Cond.static ({ cls := "LineordersModel", name := "large\x72", desc := "(II)I" } : Jvm.MethodName)) ∈ lw_all := lw_g (lw_at lw_m18 21 rfl) rfl
theorem q4358 : (Jvm.Cond.code ({ cls := "LineordersModel", name := "large\x72", desc := "(II)I" } : Jvm.MethodName) prog_14_method_190_code (2 : Nat) (Option.some Jvm.ClassFile.FieldType.int)) ∈ lw_all := lw_g (lw_at lw_m18 22 rfl) rfl
theorem q4360 : (Jvm.Cond.instanceMethod ({ cls := "LineordersModel", name := "pairOf", desc := "(II)I" } : Jvm.MethodName)) ∈ lw_all := lw_g (lw_at lw_m18 24 rfl) rfl
theorem q4361 : (Jvm.Cond.selects "LineordersModel" ({ cls := "LineordersModel", name := "pairOf", desc := "(II)I" } : Jvm.MethodName) ({ cls := "LineordersModel", name := "pairOf", desc := "(II)I" } : Jvm.MethodName)) ∈ lw_all := lw_g (lw_at lw_m18 25 rfl) rfl
theorem q4362 : (Jvm.Cond.code ({ cls := "LineordersModel", name := "pairOf", desc := "(II)I" } : Jvm.MethodName) prog_14_method_193_code (3 : Nat) (Option.some Jvm.ClassFile.FieldType.int)) ∈ lw_all := lw_g (lw_at lw_m18 26 rfl) rfl
theorem q4364 : (Jvm.Cond.instanceMethod ({ cls := "LineordersModel", name := "isSound", desc := "()Z" } : Jvm.MethodName)) ∈ lw_all := lw_g (lw_at lw_m18 28 rfl) rfl
theorem q4365 : (Jvm.Cond.selects "LineordersModel" ({ cls := "LineordersModel", name := "isSound", desc := "()Z" } : Jvm.MethodName) ({ cls := "LineordersModel", name := "isSound", desc := "()Z" } : Jvm.MethodName)) ∈ lw_all := lw_g (lw_at lw_m18 29 rfl) rfl
theorem q4366 : (Jvm.Cond.code ({ cls := "LineordersModel", name := "isSound", desc := "()Z" } : Jvm.MethodName) prog_14_method_194_code (3 : Nat) (Option.some Jvm.ClassFile.FieldType.boolean)) ∈ lw_all := lw_g (lw_at lw_m18 30 rfl) rfl
theorem in_X2 : ∀ w ∈ wsX20, w ∈ lw_all := lw_in wsX20 [3442, 3444, 3446, 3448, 3450, 3452, 3454, 3456, 3458, 3460, 3462, 3464, 3466, 3468, 3470, 3472, 3474, 3476, 3478, 3480, 3482, 3484, 3486, 3488, 3490, 3492, 3494, 3496, 3498, 3500, 3502, 3504, 3506, 3508, 3510, 3512, 3514, 3516, 3518, 3520, 3522, 3524, 3526, 3528, 3530, 3532, 3534, 3536, 3538, 3540, 3542, 3544, 3546, 3548, 3550, 3552, 3554, 3556, 3558, 3560, 3562, 3564, 3566, 3568, 3570, 3572, 3574, 3576, 3578, 3580, 3582, 3584, 3586, 3588, 3590, 3592, 3594, 3596, 3598, 3600] (by decide +kernel) (by decide +kernel)
